section
/-! The plain law: ranks and inversions of a row of integers v, no program in sight. -/
/-- how many k < n answer true -/
def os_ct (p : Nat → Bool) : Nat → Nat
  | 0 => 0
  | n + 1 => os_ct p n + (if p n = true then 1 else 0)
theorem os_ct_t {p : Nat → Bool} {n : Nat} (h : p n = true) : os_ct p (n + 1) = os_ct p n + 1 := by
  simp [os_ct, h]
theorem os_ct_f {p : Nat → Bool} {n : Nat} (h : ¬ p n = true) : os_ct p (n + 1) = os_ct p n := by
  simp [os_ct, h]
theorem os_ct_le {p q : Nat → Bool} : ∀ n : Nat, (∀ k, k < n → p k = true → q k = true) → os_ct p n ≤ os_ct q n := by
  intro n
  induction n with
  | zero => intro _; exact Nat.le_refl 0
  | succ n ih =>
    intro h
    have h1 := ih (fun k hk => h k (by omega))
    by_cases hp : p n = true
    · rw [os_ct_t hp, os_ct_t (h n (by omega) hp)]
      omega
    · rw [os_ct_f hp]
      by_cases hq : q n = true
      · rw [os_ct_t hq]
        omega
      · rw [os_ct_f hq]
        exact h1
theorem os_ct_lt {p q : Nat → Bool} (j : Nat) (hp : ¬ p j = true) (hq : q j = true) : ∀ n : Nat, j < n → (∀ k, k < n → p k = true → q k = true) → os_ct p n < os_ct q n := by
  intro n
  induction n with
  | zero => intro hj; omega
  | succ n ih =>
    intro hj h
    by_cases e : j = n
    · subst e
      have h1 := os_ct_le j (fun k hk => h k (by omega))
      rw [os_ct_f hp, os_ct_t hq]
      omega
    · have h1 := ih (by omega) (fun k hk => h k (by omega))
      by_cases hpn : p n = true
      · rw [os_ct_t hpn, os_ct_t (h n (by omega) hpn)]
        omega
      · rw [os_ct_f hpn]
        by_cases hqn : q n = true
        · rw [os_ct_t hqn]
          omega
        · rw [os_ct_f hqn]
          exact h1
theorem os_ct_n {p : Nat → Bool} (n : Nat) : os_ct p n ≤ n := by
  induction n with
  | zero => exact Nat.le_refl 0
  | succ n ih =>
    by_cases hp : p n = true
    · rw [os_ct_t hp]; omega
    · rw [os_ct_f hp]; omega
theorem os_ct_out {p : Nat → Bool} (j : Nat) (hp : ¬ p j = true) (n : Nat) (hj : j < n) : os_ct p n < n := by
  have h1 := os_ct_lt (p := p) (q := fun _ => true) j hp rfl n hj (fun _ _ _ => rfl)
  have h2 := os_ct_n (p := fun _ => true) n
  omega
theorem os_ct_eq {p q : Nat → Bool} (n : Nat) (h : ∀ k, k < n → (p k = true ↔ q k = true)) : os_ct p n = os_ct q n :=
  Nat.le_antisymm (os_ct_le n (fun k hk => (h k hk).mp)) (os_ct_le n (fun k hk => (h k hk).mpr))
theorem os_ct_add {p q : Nat → Bool} : ∀ n : Nat, (∀ k, k < n → (p k = true ↔ ¬ q k = true)) → os_ct p n + os_ct q n = n := by
  intro n
  induction n with
  | zero => intro _; rfl
  | succ n ih =>
    intro h
    have h1 := ih (fun k hk => h k (by omega))
    by_cases hq : q n = true
    · rw [os_ct_t hq, os_ct_f (fun z => (h n (by omega)).mp z hq)]
      omega
    · rw [os_ct_f hq, os_ct_t ((h n (by omega)).mpr hq)]
      omega
/-- a count that stops at j -/
theorem os_ct_cut {p q : Nat → Bool} (j : Nat) (h : ∀ k, k < j → (p k = true ↔ q k = true)) (h2 : ∀ k, j ≤ k → ¬ p k = true) : ∀ n, j ≤ n → os_ct p n = os_ct q j := by
  intro n
  induction n with
  | zero =>
    intro hj
    have : j = 0 := by omega
    subst this
    rfl
  | succ n ih =>
    intro hj
    by_cases e : j = n + 1
    · subst e
      exact os_ct_eq _ h
    · rw [os_ct_f (h2 n (by omega))]
      exact ih (by omega)
/-- k stands before j in the stable order -/
def os_be (v : Nat → Int) (j k : Nat) : Bool := decide (v k < v j ∨ (k < j ∧ v k = v j))
/-- v k is above v j -/
def os_gt (v : Nat → Int) (j k : Nat) : Bool := decide (v j < v k)
/-- v k is at most x -/
def os_lq (v : Nat → Int) (x : Int) (k : Nat) : Bool := decide (v k ≤ x)
/-- v k is below x -/
def os_lx (v : Nat → Int) (x : Int) (k : Nat) : Bool := decide (v k < x)
/-- the place of j among the first i -/
def os_pl (v : Nat → Int) (i j : Nat) : Nat := os_ct (os_be v j) i
/-- the inversions among the first i -/
def os_mv (v : Nat → Int) : Nat → Nat
  | 0 => 0
  | i + 1 => os_mv v i + os_ct (os_gt v i) i
theorem os_be_i (v : Nat → Int) (j k : Nat) : os_be v j k = true ↔ (v k < v j ∨ (k < j ∧ v k = v j)) := by
  simp [os_be]
theorem os_gt_i (v : Nat → Int) (j k : Nat) : os_gt v j k = true ↔ v j < v k := by
  simp [os_gt]
theorem os_lq_i (v : Nat → Int) (x : Int) (k : Nat) : os_lq v x k = true ↔ v k ≤ x := by
  simp [os_lq]
theorem os_lx_i (v : Nat → Int) (x : Int) (k : Nat) : os_lx v x k = true ↔ v k < x := by
  simp [os_lx]
theorem os_pl_lt (v : Nat → Int) {i j : Nat} (hj : j < i) : os_pl v i j < i :=
  os_ct_out j (by rw [os_be_i]; omega) i hj
theorem os_pl_hi (v : Nat → Int) {i j : Nat} (hj : j < i) : os_pl v i j < os_ct (os_lq v (v j)) i :=
  os_ct_lt j (by rw [os_be_i]; omega) (by rw [os_lq_i]; omega) i hj (fun k _ => by rw [os_be_i, os_lq_i]; omega)
theorem os_pl_lo (v : Nat → Int) (i j : Nat) : os_ct (os_lx v (v j)) i ≤ os_pl v i j :=
  os_ct_le i (fun k _ => by rw [os_be_i, os_lx_i]; omega)
/-- above x: the place is at or behind the count of those at most x -/
theorem os_pl_gt (v : Nat → Int) {i j : Nat} {x : Int} (h : x < v j) : os_ct (os_lq v x) i ≤ os_pl v i j :=
  Nat.le_trans (os_ct_le i (fun k _ => by rw [os_lx_i, os_lq_i]; omega)) (os_pl_lo v i j)
/-- at most x: the place is ahead of that count -/
theorem os_pl_le (v : Nat → Int) {i j : Nat} {x : Int} (hj : j < i) (h : v j ≤ x) : os_pl v i j < os_ct (os_lq v x) i :=
  Nat.lt_of_lt_of_le (os_pl_hi v hj) (os_ct_le i (fun k _ => by rw [os_lq_i, os_lq_i]; omega))
/-- one place, one value -/
theorem os_pl_inj (v : Nat → Int) {i j k : Nat} (hj : j < i) (hk : k < i) (h : os_pl v i j = os_pl v i k) : v j = v k := by
  by_cases h1 : v j < v k
  · have a := os_pl_le v hj (Int.le_refl (v j))
    have b := os_pl_gt v (i := i) h1
    omega
  · by_cases h2 : v k < v j
    · have a := os_pl_le v hk (Int.le_refl (v k))
      have b := os_pl_gt v (i := i) h2
      omega
    · omega
theorem os_pl_new (v : Nat → Int) (i : Nat) : os_pl v (i + 1) i = os_ct (os_lq v (v i)) i := by
  unfold os_pl
  rw [os_ct_f (by rw [os_be_i]; omega)]
  exact os_ct_eq i (fun k hk => by rw [os_be_i, os_lq_i]; omega)
theorem os_pl_up (v : Nat → Int) {i j : Nat} (h : v i < v j) : os_pl v (i + 1) j = os_pl v i j + 1 :=
  os_ct_t (by rw [os_be_i]; omega)
theorem os_pl_st (v : Nat → Int) {i j : Nat} (hj : j < i) (h : v j ≤ v i) : os_pl v (i + 1) j = os_pl v i j :=
  os_ct_f (by rw [os_be_i]; omega)
/-- every place is taken -/
theorem os_pl_all (v : Nat → Int) : ∀ i q : Nat, q < i → ∃ j, j < i ∧ os_pl v i j = q := by
  intro i
  induction i with
  | zero => intro q hq; omega
  | succ i ih =>
    intro q hq
    by_cases e : q = os_ct (os_lq v (v i)) i
    · exact ⟨i, by omega, by rw [os_pl_new, e]⟩
    · by_cases l : q < os_ct (os_lq v (v i)) i
      · have hm := os_ct_n (p := os_lq v (v i)) i
        obtain ⟨j, hj, ej⟩ := ih q (by omega)
        have hv : v j ≤ v i := by
          by_cases g : v i < v j
          · have := os_pl_gt v (i := i) g
            omega
          · omega
        exact ⟨j, by omega, by rw [os_pl_st v hj hv, ej]⟩
      · obtain ⟨j, hj, ej⟩ := ih (q - 1) (by omega)
        have hv : v i < v j := by
          by_cases g : v i < v j
          · exact g
          · have := os_pl_le v (x := v i) hj (by omega)
            omega
        exact ⟨j, by omega, by rw [os_pl_up v hv, ej]; omega⟩
theorem os_mv_s (v : Nat → Int) (i : Nat) : os_mv v (i + 1) = os_mv v i + (i - os_ct (os_lq v (v i)) i) := by
  have h := os_ct_add (p := os_gt v i) (q := os_lq v (v i)) i (fun k _ => by rw [os_gt_i, os_lq_i]; omega)
  show os_mv v i + os_ct (os_gt v i) i = _
  omega
end
section
/-! The walks, first half: mix, eqInts, cellAt and the class's own sort. -/
def os_v (a : Nat → Int32) : Nat → Int := fun k => (a k).toInt
theorem os_pd {p : Nat} (h : 0 < p) : nI p - 1 = nI (p - 1) := by
  obtain ⟨r, hr⟩ : ∃ r, p = r + 1 := ⟨p - 1, by omega⟩
  subst hr
  exact nI_pred r
theorem os_ile {x y : Int32} : x ≤ y ↔ x.toInt ≤ y.toInt := Int32.le_iff_toInt_le
theorem os_ilt {x y : Int32} : x < y ↔ x.toInt < y.toInt := Int32.lt_iff_toInt_lt
theorem os_ieq {x y : Int32} : x = y ↔ x.toInt = y.toInt := Int32.toInt_inj.symm
/-- what mix writes -/
def os_mx (x0 x1 : Int32) : Nat → Nat → Int32
  | 0 => fun _ => 0
  | i + 1 => upd (os_mx x0 x1 i) i (if (nI i &&& 1) = 0 then (((x0.toUInt32 >>> ((3 * nI i).toUInt32 &&& Int32.toUInt32 31)).toInt32) &&& 7) else (x1 >>> ((4 * nI i) &&& 31)))
theorem os_mix (p0 p1 p2 : Int32) : ∃ (a : Nat → Int32) (n : Nat), n ≤ 7 ∧ ∀ (post : St1 → Prop) (mc ms : Nat) (u : St0), 1 ≤ mc → 7 ≤ ms → post (a, n) → wpL_mix post mc ms u p0 p1 p2 := by
  obtain ⟨n, hn, e⟩ := pk_andE p2 (m := 7) 3 (by decide)
  have hn7 : n ≤ 7 := by omega
  refine ⟨os_mx p0 p1 n, n, hn7, fun post mc ms u hmc hms hp => ?_⟩
  unfold wpL_mix
  rw [e]
  refine ⟨nI_pos (by omega), nm_r (nI_clamp (by omega)) ⟨by omega, hmc, by omega, ?_⟩⟩
  refine pk_loop (fun f i s => wL_mix_10 post mc ms p0 p1 1 (0 + n) n f (nI i) s) (fun i s => s = os_mx p0 p1 i) n 0 (fun _ => 0) (by omega) rfl ?_ ?_
  · intro f s hs
    exact pk_le n n (fun _ => by rw [hs]; exact hp) (fun z => absurd z (by omega))
  · intro f i s hi hs hw
    refine pk_le n i (fun z => absurd z (by omega)) (fun _ => br_c (fun h => ⟨pk_in i n hi, nm_e (nm_r (nI_1 i) (hw _ ?_))⟩) (fun h => ⟨pk_in i n hi, nm_e (nm_r (nI_1 i) (hw _ ?_))⟩))
    · rw [nI_clamp (by omega), hs]
      show _ = upd (os_mx p0 p1 i) i _
      rw [if_pos h]
    · rw [nI_clamp (by omega), hs]
      show _ = upd (os_mx p0 p1 i) i _
      rw [if_neg h]
theorem os_eq {post : Int32 → Prop} {a b : Nat → Int32} {n : Nat} (hn : n ≤ 7) (h : ∀ q, q < n → a q = b q) (H : post 1) : wpL_eqInts post (a, n, b, n) := by
  refine br_t rfl ?_
  refine pk_loop (σ := Unit) (fun f i _ => wL_eqInts_11 post a n b n f (nI i)) (fun _ _ => True) n 0 () (by omega) trivial ?_ ?_
  · intro f _ _
    exact pk_le n n (fun _ => H) (fun z => absurd z (by omega))
  · intro f i _ hi _ hw
    exact pk_le n i (fun z => absurd z (by omega)) (fun _ => ⟨pk_in i n hi, pk_in i n hi, br_t (by rw [nI_clamp (by omega)]; exact h i hi) (nm_r (nI_1 i) (hw () trivial))⟩)
theorem os_cell {post : Int32 → Prop} {L : Nat} {xs : Nat → Int32} {u : St0} (k : Nat) {x : Int32} (hx : x = nI k) (hk : k < 3) (hL : L ≤ 3) (H : ∀ r, post r) : wpL_cellAt post L xs u x := by
  subst hx
  exact pk_le L k (fun _ => H _) (fun z => ⟨pk_in k L z, H _⟩)
theorem os_cmp {post : Int32 → Prop} {u : StJ02238} {x y : Int32} (h0 : x.toInt ≤ y.toInt → ∀ r : Int32, r ≤ 0 → post r) (h1 : y.toInt < x.toInt → post 1) : wpJ6_compare_7cf53_48e5c post u x y := by
  unfold wpJ6_compare_7cf53_48e5c
  refine br_c (fun g => br_c (fun g2 => ?_) (fun g2 => ?_)) (fun g => ?_)
  · exact h0 (by rw [g2]; exact Int.le_refl _) 0 (by decide)
  · rw [os_ieq] at g2
    rw [os_ile] at g
    exact h1 (by omega)
  · rw [os_ile] at g
    exact h0 (by omega) (-1) (by decide)
/-- one turn of the inner loop -/
theorem os_x12s {post : Int32 → St1 → Prop} {J4 : Int32 → Int32 → (Nat → Int32) → Prop} {i n f mv p : Nat} {c : Nat → Int32} (hp : p < n) (hn : n ≤ 7)
    (A : p = 0 ∨ (c (p - 1)).toInt ≤ (c p).toInt → J4 (nI mv) (nI (i + 1)) c)
    (B : 0 < p → (c p).toInt < (c (p - 1)).toInt → wX1_sortMoves_12 post J4 (nI i) n f (nI (mv + 1)) (nI (p - 1)) (upd (upd c p (c (p - 1))) (p - 1) (c p))) :
    wX1_sortMoves_12 post J4 (nI i) n (f + 1) (nI mv) (nI p) c := by
  refine pk_le p 0 (fun z => nm_r (nI_1 i) (A (Or.inl (by omega)))) (fun z => ?_)
  rw [os_pd z, nI_clamp (show p < 2 ^ 31 by omega), nI_clamp (show p - 1 < 2 ^ 31 by omega)]
  refine ⟨pk_in (p - 1) n (by omega), pk_in p n hp, os_cmp (fun g r hr => br_t hr (nm_r (nI_1 i) (A (Or.inr g)))) (fun g => br_f (by decide) ?_)⟩
  exact ⟨pk_in p n hp, nm_e ⟨pk_in (p - 1) n (by omega), pk_in p n hp, nm_e ⟨pk_in (p - 1) n (by omega), nm_e (nm_r (nI_1 mv) (nm_r (sb_m1 z) (B z g)))⟩⟩⟩
/-- x stands at p, those of c from p to i are one place up -/
def os_In (c : Nat → Int32) (x : Int32) (i p : Nat) (s : Nat → Int32) : Prop :=
  (∀ q, q < p → s q = c q) ∧ s p = x ∧ (∀ q, p ≤ q → q < i → s (q + 1) = c q) ∧ (∀ q, i < q → s q = c q)
theorem os_In_s {c s : Nat → Int32} {x : Int32} {i p : Nat} (hp : 0 < p) (hi : p ≤ i) (h : os_In c x i p s) : os_In c x i (p - 1) (upd (upd s p (s (p - 1))) (p - 1) (s p)) := by
  obtain ⟨h1, h2, h3, h4⟩ := h
  refine ⟨fun q hq => ?_, ?_, fun q hq hq2 => ?_, fun q hq => ?_⟩
  · rw [pk_un (by omega), pk_un (by omega)]
    exact h1 q (by omega)
  · rw [pk_us]
    exact h2
  · by_cases e : q = p - 1
    · rw [show q + 1 = p by omega, pk_un (by omega), pk_us, e]
      exact h1 (p - 1) (by omega)
    · rw [pk_un (by omega), pk_un (by omega)]
      exact h3 q (by omega) hq2
  · rw [pk_un (by omega), pk_un (by omega)]
    exact h4 q hq
theorem os_x12 {post : Int32 → St1 → Prop} {J4 : Int32 → Int32 → (Nat → Int32) → Prop} {c : Nat → Int32} {i n m mv : Nat} (hi : i < n) (hn : n ≤ 7) (hm : m ≤ i)
    (hg : ∀ p, m ≤ p → p < i → (c i).toInt < (c p).toInt) (hl : ∀ p, p < m → (c p).toInt ≤ (c i).toInt)
    (H : ∀ s, os_In c (c i) i m s → J4 (nI (mv + (i - m))) (nI (i + 1)) s) : ∃ f, wX1_sortMoves_12 post J4 (nI i) n f (nI mv) (nI i) c := by
  refine pk_loop (fun f t s => wX1_sortMoves_12 post J4 (nI i) n f (nI (mv + t)) (nI (i - t)) s) (fun t s => os_In c (c i) i (i - t) s) (i - m) 0 c (by omega) ⟨fun q _ => rfl, rfl, fun q h1 h2 => absurd h1 (by omega), fun q _ => rfl⟩ ?_ ?_
  · intro f s hs
    have e : i - (i - m) = m := by omega
    show wX1_sortMoves_12 post J4 (nI i) n (f + 1) (nI (mv + (i - m))) (nI (i - (i - m))) s
    have hs' : os_In c (c i) i m s := by rw [← e]; exact hs
    rw [e]
    refine os_x12s (by omega) hn (fun _ => H s hs') (fun z g => ?_)
    rw [hs'.2.1, hs'.1 (m - 1) (by omega)] at g
    have := hl (m - 1) (by omega)
    exact absurd g (by omega)
  · intro f t s ht hs hw
    have hs' : os_In c (c i) i (i - t) s := hs
    refine os_x12s (by omega) hn (fun z => ?_) (fun z g => ?_)
    · have := hg (i - t - 1) (by omega) (by omega)
      rw [hs'.2.1, hs'.1 (i - t - 1) (by omega)] at z
      exact absurd z (by omega)
    · exact hw _ (os_In_s (p := i - t) z (Nat.sub_le i t) hs')
theorem os_x1 {post : Int32 → St1 → Prop} {a : Nat → Int32} {n : Nat} (hn : n ≤ 7)
    (H : ∀ c, (∀ j, j < n → c (os_pl (os_v a) n j) = a j) → post (nI (os_mv (os_v a) n)) (c, n)) : wpX1_sortMoves post (a, n) := by
  by_cases n0 : n = 0
  · subst n0
    exact ⟨1, pk_le 0 1 (fun _ => H a (fun j hj => absurd hj (by omega))) (fun z => absurd z (by omega))⟩
  · refine pk_loop (fun f i s => wX1_sortMoves_4 post n f (nI (os_mv (os_v a) i)) (nI i) s) (fun i s => (∀ j, j < i → s (os_pl (os_v a) i j) = a j) ∧ (∀ j, i ≤ j → s j = a j)) n 1 a (by omega) ⟨fun j hj => ?_, fun j _ => rfl⟩ ?_ ?_
    · have h := os_pl_lt (os_v a) hj
      rw [show os_pl (os_v a) 1 j = j by omega]
    · intro f s hs
      exact pk_le n n (fun _ => H s hs.1) (fun z => absurd z (by omega))
    · intro f i s hi hs hw
      obtain ⟨h1, h2⟩ := hs
      have hsi : s i = a i := h2 i (Nat.le_refl i)
      have hm := os_ct_n (p := os_lq (os_v a) (os_v a i)) i
      refine pk_le n i (fun z => absurd z (by omega)) (fun _ => os_x12 (m := os_ct (os_lq (os_v a) (os_v a i)) i) hi hn hm (fun p hp hpi => ?_) (fun p hp => ?_) (fun c' hc => ?_))
      · obtain ⟨j, hj, ej⟩ := os_pl_all (os_v a) i p hpi
        rw [← ej, h1 j hj, hsi]
        by_cases g : os_v a i < os_v a j
        · exact g
        · have := os_pl_le (os_v a) (x := os_v a i) hj (by omega)
          exact absurd hp (by omega)
      · obtain ⟨j, hj, ej⟩ := os_pl_all (os_v a) i p (by omega)
        rw [← ej, h1 j hj, hsi]
        by_cases g : os_v a i < os_v a j
        · have := os_pl_gt (os_v a) (i := i) g
          exact absurd hp (by omega)
        · exact Int.not_lt.mp g
      · obtain ⟨c1, c2, c3, c4⟩ := hc
        rw [← os_mv_s]
        refine hw c' ⟨fun j hj => ?_, fun j hj => ?_⟩
        · by_cases e : j = i
          · rw [e, os_pl_new, c2, hsi]
          · have hji : j < i := by omega
            by_cases g : os_v a i < os_v a j
            · rw [os_pl_up (os_v a) g, c3 _ (os_pl_gt (os_v a) g) (os_pl_lt (os_v a) hji)]
              exact h1 j hji
            · rw [os_pl_st (os_v a) hji (Int.not_lt.mp g), c1 _ (os_pl_le (os_v a) hji (Int.not_lt.mp g))]
              exact h1 j hji
        · rw [c4 j (by omega)]
          exact h2 j (by omega)
end
section
/-! The walks, second half: the twin's sort. -/
def os_gj (v : Nat → Int) (j k : Nat) : Bool := decide (k < j ∧ v j < v k)
theorem os_gj_i (v : Nat → Int) (j k : Nat) : os_gj v j k = true ↔ (k < j ∧ v j < v k) := by
  simp [os_gj]
theorem os_gj_n (v : Nat → Int) {j n : Nat} (hj : j < n) : os_ct (os_gj v j) n = os_ct (os_gt v j) j :=
  os_ct_cut j (fun k hk => by rw [os_gj_i, os_gt_i]; omega) (fun k hk => by rw [os_gj_i]; omega) n (by omega)
theorem os_y47 {post : Int32 → St1 → Prop} {mc ms : Nat} {J9 : Int32 → Int32 → (Nat → Int32) → (Nat → Int32) → Prop} {J21 : Int32 → Int32 → Int32 → Prop} {y : Int32} {j k kc ks n nm : Nat} {a am : Nat → Int32} (hk : k < n) (hj : j < n) (hn : n ≤ 7)
    (B : J21 y (nI (os_ct (os_be (os_v a) j) (k + 1))) (nI (k + 1))) :
    wX2_sortMoves_47 post mc ms J9 J21 y (nI j) (nI (os_ct (os_be (os_v a) j) k)) (nI k) kc ks a n am nm := by
  unfold wX2_sortMoves_47
  rw [nI_clamp (show k < 2 ^ 31 by omega), nI_clamp (show j < 2 ^ 31 by omega)]
  refine ⟨pk_in k n hk, pk_in j n hj, br_c (fun h => ?_) (fun h => ?_)⟩
  · have h' : os_v a k < os_v a j := os_ilt.mp h
    rw [os_ct_t (p := os_be (os_v a) j) (n := k) (by rw [os_be_i]; omega)] at B
    exact nm_r (nI_1 _) (nm_r (nI_1 k) B)
  · have h' : ¬ os_v a k < os_v a j := fun z => h (os_ilt.mpr z)
    refine pk_le j k (fun z => ?_) (fun z => ⟨pk_in k n hk, pk_in j n hj, br_c (fun g => ?_) (fun g => ?_)⟩)
    · rw [os_ct_f (p := os_be (os_v a) j) (n := k) (by rw [os_be_i]; omega)] at B
      exact nm_r (nI_1 k) B
    · have g' : os_v a k = os_v a j := os_ieq.mp g
      rw [os_ct_t (p := os_be (os_v a) j) (n := k) (by rw [os_be_i]; omega)] at B
      exact nm_r (nI_1 _) (nm_r (nI_1 k) B)
    · have g' : ¬ os_v a k = os_v a j := fun z => g (os_ieq.mpr z)
      rw [os_ct_f (p := os_be (os_v a) j) (n := k) (by rw [os_be_i]; omega)] at B
      exact nm_r (nI_1 k) B
theorem os_y21 {post : Int32 → St1 → Prop} {mc ms : Nat} {J9 : Int32 → Int32 → (Nat → Int32) → (Nat → Int32) → Prop} {j kc ks n mv : Nat} {a am : Nat → Int32} (hj : j < n) (hn : n ≤ 7)
    (H : J9 (nI (mv + os_ct (os_gt (os_v a) j) j)) (nI (j + 1)) a (upd am (os_pl (os_v a) n j) (a j))) :
    ∃ f, wX2_sortMoves_21 post mc ms J9 (nI j) kc ks a n am n f (nI mv) 0 0 := by
  refine pk_loop (σ := Unit) (fun f k _ => wX2_sortMoves_21 post mc ms J9 (nI j) kc ks a n am n f (nI (mv + os_ct (os_gj (os_v a) j) k)) (nI (os_ct (os_be (os_v a) j) k)) (nI k)) (fun _ _ => True) n 0 () (by omega) trivial ?_ ?_
  · intro f _ _
    have hp : os_ct (os_be (os_v a) j) n < n := os_pl_lt (os_v a) hj
    show wX2_sortMoves_21 post mc ms J9 (nI j) kc ks a n am n (f + 1) (nI (mv + os_ct (os_gj (os_v a) j) n)) (nI (os_ct (os_be (os_v a) j) n)) (nI n)
    rw [os_gj_n (os_v a) hj]
    refine pk_le n n (fun _ => ⟨pk_in j n hj, pk_in _ n hp, nm_r ?_ (nm_r (nI_1 j) H)⟩) (fun z => absurd z (by omega))
    rw [nI_clamp (show j < 2 ^ 31 by omega), nI_clamp (by omega)]
    rfl
  · intro f k _ hk _ hw
    have t : wX2_sortMoves_21 post mc ms J9 (nI j) kc ks a n am n f (nI (mv + os_ct (os_gj (os_v a) j) (k + 1))) (nI (os_ct (os_be (os_v a) j) (k + 1))) (nI (k + 1)) := hw () trivial
    show wX2_sortMoves_21 post mc ms J9 (nI j) kc ks a n am n (f + 1) (nI (mv + os_ct (os_gj (os_v a) j) k)) (nI (os_ct (os_be (os_v a) j) k)) (nI k)
    refine pk_le n k (fun z => absurd z (by omega)) (fun _ => pk_le j k (fun z => ?_) (fun z => ⟨pk_in k n hk, pk_in j n hj, ?_⟩))
    · rw [os_ct_f (p := os_gj (os_v a) j) (n := k) (by rw [os_gj_i]; omega)] at t
      exact os_y47 hk hj hn t
    · rw [nI_clamp (show k < 2 ^ 31 by omega), nI_clamp (show j < 2 ^ 31 by omega)]
      refine br_c (fun g => ?_) (fun g => ?_)
      · have g' : os_v a k ≤ os_v a j := os_ile.mp g
        rw [os_ct_f (p := os_gj (os_v a) j) (n := k) (by rw [os_gj_i]; omega)] at t
        exact os_y47 hk hj hn t
      · have g' : ¬ os_v a k ≤ os_v a j := fun z => g (os_ile.mpr z)
        rw [os_ct_t (p := os_gj (os_v a) j) (n := k) (by rw [os_gj_i]; omega)] at t
        exact nm_r (nI_1 _) (os_y47 hk hj hn t)
theorem os_y97 {post : Int32 → St1 → Prop} {mc ms kc ks n : Nat} {y : Int32} {a am : Nat → Int32} (hn : n ≤ 7) (H : ∀ b, (∀ q, q < n → b q = am q) → post y (b, n)) :
    ∃ f, wX2_sortMoves_97 post mc ms y kc ks n n f 0 a am := by
  refine pk_loop (fun f i s => wX2_sortMoves_97 post mc ms y kc ks n n f (nI i) s am) (fun i s => ∀ q, q < i → s q = am q) n 0 a (by omega) (fun q hq => absurd hq (by omega)) ?_ ?_
  · intro f s hs
    exact pk_le n n (fun _ => H s hs) (fun z => absurd z (by omega))
  · intro f i s hi hs hw
    refine pk_le n i (fun z => absurd z (by omega)) (fun _ => ⟨pk_in i n hi, pk_in i n hi, nm_e (nm_r (nI_1 i) (hw _ (fun q hq => ?_)))⟩)
    rw [nI_clamp (show i < 2 ^ 31 by omega)]
    by_cases e : q = i
    · rw [e, pk_us]
    · rw [pk_un e]
      exact hs q (by omega)
theorem os_x2 {post : Int32 → St1 → Prop} {mc ms : Nat} {a : Nat → Int32} {n : Nat} (hn : n ≤ 7) (hmc : 1 ≤ mc) (hms : 7 ≤ ms)
    (H : ∀ b, (∀ j, j < n → b (os_pl (os_v a) n j) = a j) → post (nI (os_mv (os_v a) n)) (b, n)) : wpX2_sortMoves post mc ms (a, n) := by
  refine ⟨nI_pos (n := n) (by omega), nm_r (nI_clamp (n := n) (by omega)) ⟨by omega, hmc, by omega, ?_⟩⟩
  refine pk_loop (fun f j s => wX2_sortMoves_9 post mc ms 1 (0 + n) n n f (nI (os_mv (os_v a) j)) (nI j) a s) (fun j s => ∀ k, k < j → s (os_pl (os_v a) n k) = a k) n 0 (fun _ => 0) (by omega) (fun k hk => absurd hk (by omega)) ?_ ?_
  · intro f s hs
    refine pk_le n n (fun _ => os_y97 hn (fun b hb => H b (fun j hj => ?_))) (fun z => absurd z (by omega))
    rw [hb _ (os_pl_lt (os_v a) hj)]
    exact hs j hj
  · intro f j s hj hs hw
    refine pk_le n j (fun z => absurd z (by omega)) (fun _ => os_y21 hj hn (hw _ (fun k hk => ?_)))
    by_cases e : os_pl (os_v a) n k = os_pl (os_v a) n j
    · rw [e, pk_us]
      exact os_ieq.mpr (os_pl_inj (os_v a) hj (by omega) e.symm)
    · rw [pk_un e]
      by_cases ek : k = j
      · exact absurd (by rw [ek]) e
      · exact hs k (by omega)
end
section
/-! The top: both sorts answer the same count and leave the same row. -/
theorem os_law {post : Int32 → St0 → Prop} {mc ms : Nat} {u : St0} {p0 p1 p2 : Int32} (hmc : 3 ≤ mc) (hms : 21 ≤ ms) (H : post 1 ()) : wpL_lawOf post mc ms u p0 p1 p2 := by
  obtain ⟨a, n, hn, hmix⟩ := os_mix p0 p1 p2
  refine ⟨1, 7, by omega, by omega, hmix _ 1 7 () (by omega) (by omega) ?_⟩
  refine ⟨1, 7, by omega, by omega, hmix _ 1 7 () (by omega) (by omega) ?_⟩
  refine os_x1 hn (fun c hc => ?_)
  refine ⟨1, 7, by omega, by omega, os_x2 hn (by omega) (by omega) (fun b hb => ?_)⟩
  refine br_t rfl (os_eq hn (fun q hq => ?_) (br_f (by decide) H))
  obtain ⟨j, hj, ej⟩ := os_pl_all (os_v a) n q hq
  rw [← ej, hc j hj, hb j hj]
theorem i_vc (xs : Nat → Int32) (L : Nat) (hL : L ≤ 3) : wpL_law (fun r => r = 1) L xs := by
  refine os_cell 0 rfl (by omega) hL (fun r1 => ?_)
  refine os_cell 1 rfl (by omega) hL (fun r2 => ?_)
  refine os_cell 2 rfl (by omega) hL (fun r3 => ?_)
  exact ⟨9, 144, by omega, by omega, os_law (by omega) (by omega) rfl⟩
end
