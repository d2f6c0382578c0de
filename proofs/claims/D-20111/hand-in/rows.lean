section
/-! ===== the plain law: adding coins to a row of counts, in any order ===== -/
/-- a coin c added to the row g, by fuel -/
def cw_F (c : Nat) (g : Nat → Int32) : Nat → Nat → Int32
  | 0, s => g s
  | f + 1, s => if c ≤ s then g s + cw_F c g f (s - c) else g s
/-- a coin c added to the row g -/
def cw_R (c : Nat) (g : Nat → Int32) (s : Nat) : Int32 := cw_F c g s s
theorem cw_F_any {c : Nat} (hc : 1 ≤ c) (g : Nat → Int32) : ∀ f f' s, s ≤ f → s ≤ f' → cw_F c g f s = cw_F c g f' s := by
  intro f
  induction f with
  | zero =>
    intro f' s h h'
    cases f' with
    | zero => rfl
    | succ f' =>
      have h0 : ¬ c ≤ s := by omega
      show g s = if c ≤ s then g s + cw_F c g f' (s - c) else g s
      rw [if_neg h0]
  | succ f ih =>
    intro f' s h h'
    cases f' with
    | zero =>
      have h0 : ¬ c ≤ s := by omega
      show (if c ≤ s then g s + cw_F c g f (s - c) else g s) = g s
      rw [if_neg h0]
    | succ f' =>
      show (if c ≤ s then g s + cw_F c g f (s - c) else g s) = if c ≤ s then g s + cw_F c g f' (s - c) else g s
      by_cases h0 : c ≤ s
      · rw [if_pos h0, if_pos h0, ih f' (s - c) (by omega) (by omega)]
      · rw [if_neg h0, if_neg h0]
theorem cw_R_lo {c : Nat} (g : Nat → Int32) {s : Nat} (h : s < c) : cw_R c g s = g s := by
  cases s with
  | zero => rfl
  | succ s => exact if_neg (by omega)
theorem cw_R_hi {c : Nat} (hc : 1 ≤ c) (g : Nat → Int32) {s : Nat} (h : c ≤ s) : cw_R c g s = g s + cw_R c g (s - c) := by
  cases s with
  | zero => omega
  | succ s =>
    have e : cw_R c g (s + 1) = g (s + 1) + cw_F c g s (s + 1 - c) := if_pos h
    rw [e]
    exact congrArg (g (s + 1) + ·) (cw_F_any hc g s (s + 1 - c) (s + 1 - c) (by omega) (Nat.le_refl _))
/-- two coins may be added in either order -/
theorem cw_swap {c d : Nat} (hc : 1 ≤ c) (hd : 1 ≤ d) (g : Nat → Int32) : ∀ m s, s ≤ m → cw_R c (cw_R d g) s = cw_R d (cw_R c g) s := by
  intro m
  induction m with
  | zero =>
    intro s hs
    rw [cw_R_lo _ (show s < c by omega), cw_R_lo _ (show s < d by omega), cw_R_lo _ (show s < d by omega), cw_R_lo _ (show s < c by omega)]
  | succ m ih =>
    intro s hs
    by_cases h1 : c ≤ s
    · by_cases h2 : d ≤ s
      · rw [cw_R_hi hc (cw_R d g) h1, cw_R_hi hd (cw_R c g) h2, cw_R_hi hd g h2, cw_R_hi hc g h1, ih (s - c) (by omega), ← ih (s - d) (by omega)]
        by_cases h3 : c + d ≤ s
        · rw [cw_R_hi hd (cw_R c g) (show d ≤ s - c by omega), cw_R_hi hc (cw_R d g) (show c ≤ s - d by omega), show s - d - c = s - c - d by omega, ih (s - c - d) (by omega)]
          grind
        · rw [cw_R_lo (cw_R c g) (show s - c < d by omega), cw_R_lo (cw_R d g) (show s - d < c by omega)]
          grind
      · rw [cw_R_hi hc (cw_R d g) h1, cw_R_lo (cw_R c g) (show s < d by omega), cw_R_lo g (show s < d by omega), cw_R_hi hc g h1, ih (s - c) (by omega), cw_R_lo (cw_R c g) (show s - c < d by omega)]
    · by_cases h2 : d ≤ s
      · rw [cw_R_lo (cw_R d g) (show s < c by omega), cw_R_hi hd (cw_R c g) h2, cw_R_hi hd g h2, cw_R_lo g (show s < c by omega), ← ih (s - d) (by omega), cw_R_lo (cw_R d g) (show s - d < c by omega)]
      · rw [cw_R_lo (cw_R d g) (show s < c by omega), cw_R_lo (cw_R c g) (show s < d by omega), cw_R_lo g (show s < d by omega), cw_R_lo g (show s < c by omega)]
theorem cw_com {c d : Nat} (hc : 1 ≤ c) (hd : 1 ≤ d) (g : Nat → Int32) : cw_R c (cw_R d g) = cw_R d (cw_R c g) :=
  funext (fun s => cw_swap hc hd g s s (Nat.le_refl s))
/-- k coins from place i on, added in turn -/
def cw_A (c : Nat → Nat) : Nat → Nat → (Nat → Int32) → (Nat → Int32)
  | 0, _, g => g
  | k + 1, i, g => cw_A c k (i + 1) (cw_R (c i) g)
theorem cw_A_out {c : Nat → Nat} {d : Nat} (hd : 1 ≤ d) : ∀ k i g, (∀ j, i ≤ j → j < i + k → 1 ≤ c j) → cw_A c k i (cw_R d g) = cw_R d (cw_A c k i g) := by
  intro k
  induction k with
  | zero => intro i g _; rfl
  | succ k ih =>
    intro i g h
    show cw_A c k (i + 1) (cw_R (c i) (cw_R d g)) = cw_R d (cw_A c k (i + 1) (cw_R (c i) g))
    rw [cw_com (h i (Nat.le_refl i) (by omega)) hd, ih (i + 1) _ (fun j a b => h j (by omega) (by omega))]
/-- the empty row: nothing is paid in one way -/
def cw_0 : Nat → Int32 := upd (fun _ => 0) 0 1
/-- in how many ways k coins from place i on make s -/
def cw_W (c : Nat → Nat) (k i s : Nat) : Int32 := cw_A c k i cw_0 s
theorem cw_W_s {c : Nat → Nat} {k i : Nat} (h : ∀ j, i ≤ j → j < i + (k + 1) → 1 ≤ c j) (s : Nat) : cw_W c (k + 1) i s = cw_R (c i) (cw_A c k (i + 1) cw_0) s :=
  congrFun (cw_A_out (h i (Nat.le_refl i) (by omega)) k (i + 1) cw_0 (fun j a b => h j (by omega) (by omega))) s
theorem cw_W_hi {c : Nat → Nat} {k i s : Nat} (h : ∀ j, i ≤ j → j < i + (k + 1) → 1 ≤ c j) (hs : c i ≤ s) : cw_W c (k + 1) i s = cw_W c (k + 1) i (s - c i) + cw_W c k (i + 1) s := by
  rw [cw_W_s h, cw_W_s h, cw_R_hi (h i (Nat.le_refl i) (by omega)) _ hs, Int32.add_comm]
  rfl
theorem cw_W_lo {c : Nat → Nat} {k i s : Nat} (h : ∀ j, i ≤ j → j < i + (k + 1) → 1 ≤ c j) (hs : s < c i) : cw_W c (k + 1) i s = 0 + cw_W c k (i + 1) s := by
  rw [cw_W_s h, cw_R_lo _ hs, Int32.zero_add]
  rfl
theorem cw_W_0 {c : Nat → Nat} : ∀ k i, (∀ j, i ≤ j → j < i + k → 1 ≤ c j) → cw_W c k i 0 = 1 := by
  intro k
  induction k with
  | zero => intro i _; rfl
  | succ k ih =>
    intro i h
    rw [cw_W_lo h (h i (Nat.le_refl i) (by omega)), ih (i + 1) (fun j a b => h j (by omega) (by omega)), Int32.zero_add]
theorem cw_W_e {c : Nat → Nat} {i s : Nat} (h : s ≠ 0) : cw_W c 0 i s = 0 := if_neg h
end
section
/-! ===== the two ways of counting, and the maker of coins ===== -/
/-- the coins c lie in the array a of n places -/
def cw_ok (c : Nat → Nat) (a : Nat → Int32) (n : Nat) : Prop := n ≤ 3 ∧ ∀ j, j < n → a j = nI (c j) ∧ 1 ≤ c j ∧ c j ≤ 8
theorem cw_neg {a : Nat → Int32} {n : Nat} {d : Nat} {x y : Int32} {post : Int32 → Prop} (hd : 0 < d) (hy : y < 0) (h : post 0) : wpX2_waysToPay d post (a, n) x y := by
  cases d with
  | zero => omega
  | succ d =>
    have h0 : ¬ y = 0 := fun e => absurd (show (0 : Int32) < 0 from by rw [e] at hy; exact hy) (by decide)
    exact br_f h0 (br_t hy h)
theorem cw_rec {c : Nat → Nat} {a : Nat → Int32} {n : Nat} (ok : cw_ok c a n) : ∀ (d k i s : Nat) (post : Int32 → Prop), i + k = n → s ≤ 100 → k + s < d → post (cw_W c k i s) → wpX2_waysToPay d post (a, n) (nI i) (nI s) := by
  obtain ⟨hn, hc⟩ := ok
  intro d
  induction d with
  | zero => intro k i s post _ _ h; omega
  | succ d ih =>
    intro k i s post hk hs hd hp
    have h1 : ∀ j, i ≤ j → j < i + k → 1 ≤ c j := fun j _ b => (hc j (by omega)).2.1
    refine pk_eq s 0 (fun e => ?_) (fun e => br_f (nI_pos (by omega)) ?_)
    · rw [e, cw_W_0 k i h1] at hp
      exact hp
    · cases k with
      | zero =>
        rw [cw_W_e e] at hp
        exact pk_eq i n (fun _ => hp) (fun z => absurd hk z)
      | succ k =>
        refine pk_eq i n (fun z => absurd z (by omega)) (fun _ => ⟨pk_in i n (by omega), ?_⟩)
        rw [nI_clamp (show i < 2 ^ 31 by omega), (hc i (by omega)).1, nI_1]
        have c1 := (hc i (by omega)).2.1
        have c8 := (hc i (by omega)).2.2
        by_cases h : c i ≤ s
        · rw [pk_sub h]
          rw [cw_W_hi h1 h] at hp
          exact ih (k + 1) i (s - c i) _ hk (by omega) (by omega) (ih k (i + 1) s _ (by omega) hs (by omega) hp)
        · rw [cw_W_lo h1 (by omega)] at hp
          exact cw_neg (by omega) (pk_sneg (by omega) (by omega)) (ih k (i + 1) s _ (by omega) hs (by omega) hp)
/-- the plain one's inner loop: one coin is added to the row -/
theorem cw_32 {post : Int32 → St1 → Prop} {mc ms : Nat} {J : Int32 → (Nat → Int32) → (Nat → Int32) → Prop} {kc ks n i A q : Nat} {a g : Nat → Int32} (hn : n ≤ 3) (hi : i < n) (hA : A ≤ 100) (hq1 : 1 ≤ q) (hq : q ≤ 8) (ha : a i = nI q)
    (H : ∀ m : Nat → Int32, (∀ j, j ≤ A → m j = cw_R q g j) → J (nI (i + 1)) a m) :
    ∀ (f j : Nat) (m : Nat → Int32), A + 1 ≤ j + f → q ≤ j → j ≤ 200 → (∀ t, t < j → t ≤ A → m t = cw_R q g t) → (∀ t, j ≤ t → t ≤ A → m t = g t) → wX3_waysToPay_32 post mc ms J (nI A) (nI i) kc ks n (A + 1) (f + 1) (nI j) a m := by
  intro f
  induction f with
  | zero =>
    intro j m h1 h2 h3 h4 h5
    exact pk_lt A j (fun _ => nm_r (nI_1 i) (H m (fun t ht => h4 t (by omega) ht))) (fun z => absurd z (by omega))
  | succ f ih =>
    intro j m h1 h2 h3 h4 h5
    refine pk_lt A j (fun z => nm_r (nI_1 i) (H m (fun t ht => h4 t (by omega) ht))) (fun z => ⟨pk_in j (A + 1) (by omega), pk_in i n hi, ?_⟩)
    rw [nI_clamp (show i < 2 ^ 31 by omega), ha, pk_sub h2, nI_clamp (show j < 2 ^ 31 by omega), nI_clamp (show j - q < 2 ^ 31 by omega)]
    refine ⟨pk_in (j - q) (A + 1) (by omega), pk_in j (A + 1) (by omega), nm_e (nm_r (nI_1 j) (ih (j + 1) _ (by omega) (by omega) (by omega) (fun t t1 t2 => ?_) (fun t t1 t2 => ?_)))⟩
    · by_cases e : t = j
      · rw [e, pk_us, h5 j (Nat.le_refl j) z, h4 (j - q) (by omega) (by omega), cw_R_hi hq1 g h2]
      · rw [pk_un e]
        exact h4 t (by omega) t2
    · rw [pk_un (show t ≠ j by omega)]
      exact h5 t (by omega) t2
/-- the plain one's outer loop -/
theorem cw_19 {c : Nat → Nat} {a : Nat → Int32} {n : Nat} (ok : cw_ok c a n) {post : Int32 → St1 → Prop} {mc ms kc ks A : Nat} (hA : A ≤ 100) :
    ∀ (k i : Nat) (g m : Nat → Int32), i + k = n → (∀ j, j ≤ A → m j = g j) → post (cw_A c k i g A) (a, n) → wX3_waysToPay_19 post mc ms (nI A) kc ks n (A + 1) (k + 1) (nI i) a m := by
  obtain ⟨hn, hc⟩ := ok
  intro k
  induction k with
  | zero =>
    intro i g m hk hm hp
    refine pk_le n i (fun _ => ⟨pk_in A (A + 1) (by omega), ?_⟩) (fun z => absurd z (by omega))
    rw [nI_clamp (show A < 2 ^ 31 by omega), hm A (Nat.le_refl A)]
    exact hp
  | succ k ih =>
    intro i g m hk hm hp
    have hi : i < n := by omega
    obtain ⟨e, c1, c8⟩ := hc i hi
    have e' : a (nI i).toNatClampNeg = nI (c i) := by rw [nI_clamp (show i < 2 ^ 31 by omega)]; exact e
    refine pk_le n i (fun z => absurd z (by omega)) (fun _ => ⟨pk_in i n hi, nm_r e' ⟨A + 1 + 1, ?_⟩⟩)
    exact cw_32 (g := g) hn hi hA c1 c8 e (fun m' hm' => ih (i + 1) (cw_R (c i) g) m' (by omega) hm' hp) (A + 1) (c i) m (by omega) (Nat.le_refl _) (by omega) (fun t t1 t2 => by rw [hm t t2, cw_R_lo g t1]) (fun t t1 t2 => hm t t2)
theorem cw_plain {c : Nat → Nat} {a : Nat → Int32} {n : Nat} (ok : cw_ok c a n) {post : Int32 → St1 → Prop} {mc ms A k i : Nat} (hA : A ≤ 100) (hk : i + k = n) (hmc : 1 ≤ mc) (hms : A + 1 ≤ ms) (hp : post (cw_W c k i A) (a, n)) : wpX3_waysToPay post mc ms (a, n) (nI i) (nI A) := by
  have hcl : (nI A + 1).toNatClampNeg = A + 1 := by rw [nI_1]; exact nI_clamp (by omega)
  refine br_t (nI_pos' (by omega)) ⟨by rw [nI_1]; exact nI_pos (by omega), nm_r hcl ⟨by omega, hmc, by omega, pk_in 0 (A + 1) (by omega), nm_e ⟨k + 1, ?_⟩⟩⟩
  exact cw_19 ok hA k i cw_0 _ hk (fun j _ => rfl) hp
theorem cw_plainN {a : Nat → Int32} {n : Nat} {post : Int32 → St1 → Prop} {mc ms : Nat} {x y : Int32} (hy : ¬ 0 ≤ y) (hp : post 0 (a, n)) : wpX3_waysToPay post mc ms (a, n) x y := br_f hy hp
/-- the coin at place j, out of the bits -/
def cw_v (b : Int32) (j : Nat) : Int32 := 1 + (((b.toUInt32 >>> ((4 + (3 * nI j)).toUInt32 &&& Int32.toUInt32 31)).toInt32) &&& 7)
theorem cw_vE (b : Int32) (j : Nat) : ∃ q : Nat, cw_v b j = nI q ∧ 1 ≤ q ∧ q ≤ 8 := by
  obtain ⟨t, ht, e⟩ := pk_andE ((b.toUInt32 >>> ((4 + (3 * nI j)).toUInt32 &&& Int32.toUInt32 31)).toInt32) (m := 7) 3 (by decide)
  refine ⟨t + 1, ?_, by omega, by omega⟩
  unfold cw_v
  rw [e, Int32.add_comm, nI_1]
theorem cw_made {post : St1 → Prop} {mc ms : Nat} {u : St0} {b : Int32} (n : Nat) (en : b &&& 3 = nI n) (hn : n ≤ 3) (hmc : 1 ≤ mc) (hms : 3 ≤ ms) (H : ∀ a : Nat → Int32, (∀ j, j < n → a j = cw_v b j) → post (a, n)) : wpL_made post mc ms u b := by
  have en' : (b &&& 3).toNatClampNeg = n := by rw [en]; exact nI_clamp (by omega)
  refine ⟨by rw [en]; exact nI_pos (by omega), nm_r en' ⟨by omega, hmc, by omega, ?_⟩⟩
  exact pk_loop (fun f i s => wL_made_8 post mc ms b 1 (0 + n) n f (nI i) s) (fun i s => ∀ j, j < i → s j = cw_v b j) n 0 (fun _ => 0) (by omega) (fun j hj => absurd hj (by omega))
    (fun f s h => pk_le n n (fun _ => H s h) (fun z => absurd z (by omega)))
    (fun f i s hi h hw => pk_le n i (fun z => absurd z (by omega)) (fun _ => ⟨pk_in i n hi, nm_e (nm_r (nI_1 i) (hw _ (fun j hj => by
      rw [nI_clamp (show i < 2 ^ 31 by omega)]
      by_cases e : j = i
      · rw [e, pk_us]
        rfl
      · rw [pk_un e]
        exact h j (by omega))))⟩))
theorem cw_coins (b : Int32) {n : Nat} (hn : n ≤ 3) : ∃ c : Nat → Nat, ∀ a : Nat → Int32, (∀ j, j < n → a j = cw_v b j) → cw_ok c a n :=
  ⟨fun j => Classical.choose (cw_vE b j), fun a h => ⟨hn, fun j hj => by
    have t := Classical.choose_spec (cw_vE b j)
    exact ⟨(h j hj).trans t.1, t.2.1, t.2.2⟩⟩⟩
end
section
/-! ===== the law ===== -/
/-- the last loop: the three arrays are alike -/
theorem cw_66 {post : Int32 → St0 → Prop} {mc ms kc ks n : Nat} {a b z : Nat → Int32} (hn : n ≤ 3) (ha : ∀ j, j < n → a j = z j) (hb : ∀ j, j < n → b j = z j) (hp : post 1 ()) : ∃ fu, wL_lawOf_66 post mc ms kc ks a n b n z n fu 0 :=
  pk_loop (σ := Unit) (fun f i _ => wL_lawOf_66 post mc ms kc ks a n b n z n f (nI i)) (fun _ _ => True) n 0 () (by omega) trivial
    (fun f _ _ => pk_le n n (fun _ => hp) (fun z => absurd z (by omega)))
    (fun f i _ hi _ hw => pk_le n i (fun z => absurd z (by omega)) (fun _ => ⟨pk_in i n hi, pk_in i n hi, br_t (by rw [nI_clamp (show i < 2 ^ 31 by omega)]; exact ha i hi) ⟨pk_in i n hi, pk_in i n hi, br_t (by rw [nI_clamp (show i < 2 ^ 31 by omega)]; exact hb i hi) (nm_r (nI_1 i) (hw () trivial))⟩⟩))
/-- behind the makers: the two counts are one, the arrays are unchanged -/
theorem cw_28 {post : Int32 → St0 → Prop} {x0 x1 : Int32} {i n : Nat} {a b : Nat → Int32} (en : x0 &&& 3 = nI n) (hn : n ≤ 3) (hi : i ≤ n) (ha : ∀ j, j < n → a j = cw_v x0 j) (hb : ∀ j, j < n → b j = cw_v x0 j) (hp : post 1 ()) : wL_lawOf_28 post 11 176 x0 x1 (nI i) (0 + 1 + 1) (0 + 3 + 3) a n b n := by
  obtain ⟨c, hc⟩ := cw_coins x0 hn
  obtain ⟨t, ht, e⟩ := pk_andE x1 (m := 15) 4 (by decide)
  have fin : ∀ mc ms kc ks : Nat, 1 ≤ mc → 3 ≤ ms → wpL_made (fun u => match u with | (am58_36, nm58_37) => (∃ fu66 : Nat, wL_lawOf_66 post 11 176 kc ks a n b n am58_36 nm58_37 fu66 0)) mc ms () x0 := by
    intro mc ms kc ks h1 h2
    exact cw_made n en hn h1 h2 (fun z hz => cw_66 hn (fun j hj => (ha j hj).trans (hz j hj).symm) (fun j hj => (hb j hj).trans (hz j hj).symm) hp)
  intro x5 e5
  rw [e] at e5
  cases t with
  | zero =>
    have e6 : x5 = -1 := e5.trans (by decide)
    subst e6
    exact cw_neg (by omega) (by decide) ⟨1, 16, by omega, by omega, cw_plainN (by decide) (br_t rfl ⟨1, 3, by omega, by omega, fin _ _ _ _ (by omega) (by omega)⟩)⟩
  | succ t =>
    rw [nI_pred] at e5
    subst e5
    exact cw_rec (hc a ha) 58 (n - i) i t _ (by omega) (by omega) (by omega) ⟨1, 16, by omega, by omega, cw_plain (hc b hb) (k := n - i) (by omega) (by omega) (by omega) (by omega) (br_t rfl ⟨1, 3, by omega, by omega, fin _ _ _ _ (by omega) (by omega)⟩)⟩
theorem cw_lawOf {post : Int32 → St0 → Prop} (x0 x1 : Int32) (hp : post 1 ()) : wpL_lawOf post 11 176 () x0 x1 := by
  obtain ⟨n, hn, en⟩ := pk_andE x0 (m := 3) 2 (by decide)
  have hn' : n ≤ 3 := by omega
  refine ⟨1, 3, by omega, by omega, cw_made n en hn' (by omega) (by omega) (fun a ha => ⟨1, 3, by omega, by omega, cw_made n en hn' (by omega) (by omega) (fun b hb => ?_)⟩)⟩
  intro x4 e4
  obtain ⟨i, hi, ei⟩ := pk_andE ((x0.toUInt32 >>> ((16 : Int32).toUInt32 &&& Int32.toUInt32 31)).toInt32) (m := 3) 2 (by decide)
  rw [ei] at e4
  subst e4
  refine pk_le i n (fun z => cw_28 en hn' z ha hb hp) (fun _ => ?_)
  have h := cw_28 (x1 := x1) (i := 0) en hn' (by omega) ha hb hp
  rw [nI_0] at h
  exact h
theorem cw_cell {post : Int32 → Prop} {L : Nat} {xs : Nat → Int32} {u : St0} (hL : L ≤ 2) (i : Nat) (hi : i ≤ 1) (H : ∀ r, post r) : wpL_cellAt post L xs u (nI i) :=
  pk_le L i (fun _ => H _) (fun z => ⟨pk_in i L z, H _⟩)
theorem i_vc (xs : Nat → Int32) (L : Nat) (hL : L ≤ 2) : wpL_law (fun r => r = 1) L xs :=
  cw_cell hL 0 (by omega) (fun r1 => cw_cell hL 1 (by omega) (fun r2 => ⟨11, 176, by omega, by omega, cw_lawOf r1 r2 rfl⟩))
end
