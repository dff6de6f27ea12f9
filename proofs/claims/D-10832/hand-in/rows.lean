section
/-- the twelve coefficients of the state are those of the picture -/
def ft_ag (a M : Nat → Int32) : Prop := ∀ j, j < 12 → a j = M j
theorem ft_ag_u {a M : Nat → Int32} (h : ft_ag a M) (i : Nat) {v w : Int32} (e : v = w) : ft_ag (upd a i v) (upd M i w) := by
  intro j hj
  by_cases c : j = i
  · rw [c, pk_us, pk_us, e]
  · rw [pk_un c, pk_un c]
    exact h j hj
/-- the last loop: the value of the digits below i, from the highest one on -/
def ft_e (p : Int32) (M : Nat → Int32) : Nat → Int32 → Int32
  | 0, r => r
  | i + 1, r => ft_e p M i (r * p + (M i - M i / p * p))
/-- one step of the reduction, at place k + i -/
def ft_rs (k i : Nat) (M : Nat → Int32) : Nat → Int32 :=
  upd (upd M i (M i + M (k + i))) (i + 1) (upd M i (M i + M (k + i)) (i + 1) + upd M i (M i + M (k + i)) (k + i))
def ft_r (k : Nat) : Nat → (Nat → Int32) → (Nat → Int32)
  | 0, M => M
  | i + 1, M => ft_r k i (ft_rs k i M)
/-- the inner loop: m digits of y, from place j on, times the lowest digit of x, added from place i on -/
def ft_i (p x : Int32) (i : Nat) : Nat → Nat → Int32 → (Nat → Int32) → (Nat → Int32)
  | 0, _, _, M => M
  | m + 1, j, y, M => ft_i p x i m (j + 1) (y / p) (upd M (i + j) (M (i + j) + (x - x / p * p) * (y - y / p * p)))
/-- the outer loop -/
def ft_o (p g : Int32) (k : Nat) : Nat → Nat → Int32 → (Nat → Int32) → (Nat → Int32)
  | 0, _, _, M => M
  | m + 1, i, x, M => ft_o p g k m (i + 1) (x / p) (ft_i p x i k 0 g M)
/-- the product -/
def ft_pv (p : Int32) (k : Nat) (x g : Int32) : Int32 := ft_e p (ft_r k k (ft_o p g k k 0 x (fun _ => 0))) k 0
theorem ft_187 {post : Int32 → St2 → Prop} {q p kI : Int32} {a1 a2 a3 M : Nat → Int32} (hp : ¬ p = 0) (ha : ft_ag a3 M) :
    ∀ (i : Nat) (r : Int32), i ≤ 12 → post (ft_e p M i r) (q, p, kI, a1, a2, a3) → wX_productByCoefficients_187 post q p kI a1 a2 a3 (i + 1) r (nI i + (-1)) := by
  intro i
  induction i with
  | zero =>
    intro r _ h
    exact br_t (by decide) h
  | succ i ih =>
    intro r hi h
    rw [pk_m1]
    refine br_f (nI_pos (by omega)) ⟨vp_in_nI (by omega) (by omega), hp, nm_r (e' := r * p + (M i - M i / p * p)) ?_ (nm_e (ih _ (by omega) h))⟩
    rw [nI_clamp (by omega), ha i (by omega)]
theorem ft_115 {post : Int32 → St2 → Prop} {q p : Int32} {k : Nat} {a1 a2 : Nat → Int32} (hp : ¬ p = 0) (hk : 0 < k) (hk6 : k ≤ 6) :
    ∀ (i : Nat) (M a3 : Nat → Int32), i ≤ k → ft_ag a3 M → (∀ a3' : Nat → Int32, post (ft_e p (ft_r k i M) k 0) (q, p, nI k, a1, a2, a3')) →
      wX_productByCoefficients_115 post q p (nI k) (i + 1) (nI (k + i) + (-1)) a1 a2 a3 := by
  intro i
  induction i with
  | zero =>
    intro M a3 _ ha h
    obtain ⟨k', rfl⟩ : ∃ k', k = k' + 1 := ⟨k - 1, by omega⟩
    have e : nI (k' + 1 + 0) + (-1) = nI k' := pk_m1 k'
    have e2 : nI (k' + 1) - 1 = nI (k' + 1) + (-1) := by rw [nI_pred, pk_m1]
    rw [e]
    refine br_t (nI_lt (by omega) (by omega)) (nm_r e2 ⟨k' + 1 + 1, ft_187 hp ha (k' + 1) 0 (by omega) (h a3)⟩)
  | succ i ih =>
    intro M a3 hi ha h
    have e1 : nI (k + (i + 1)) + (-1) = nI (k + i) := pk_m1 (k + i)
    have e2 : nI (k + i) - nI k = nI i := by
      rw [pk_sub (by omega), show k + i - k = i by omega]
    have hs1 : ft_ag (upd a3 i (a3 i + a3 (k + i))) (upd M i (M i + M (k + i))) :=
      ft_ag_u ha i (by rw [ha i (by omega), ha (k + i) (by omega)])
    have hs2 : ft_ag (upd (upd a3 i (a3 i + a3 (k + i))) (i + 1) (upd a3 i (a3 i + a3 (k + i)) (i + 1) + upd a3 i (a3 i + a3 (k + i)) (k + i))) (ft_rs k i M) :=
      ft_ag_u hs1 (i + 1) (by rw [hs1 (i + 1) (by omega), hs1 (k + i) (by omega)])
    rw [e1]
    refine br_f (nI_nlt (by omega) (by omega)) ?_
    rw [e2, nI_1 i, nI_clamp (show i < 2 ^ 31 by omega), nI_clamp (show i + 1 < 2 ^ 31 by omega), nI_clamp (show k + i < 2 ^ 31 by omega)]
    exact ⟨vp_in_nI (by omega) (by omega), vp_in_nI (by omega) (by omega), vp_in_nI (by omega) (by omega),
      nm_e ⟨vp_in_nI (by omega) (by omega), vp_in_nI (by omega) (by omega), vp_in_nI (by omega) (by omega),
        nm_e (nm_e (ih (ft_rs k i M) _ (by omega) hs2 h))⟩⟩
theorem ft_41 {post : Int32 → St2 → Prop} {J : Int32 → Int32 → (Nat → Int32) → (Nat → Int32) → (Nat → Int32) → Prop} {g x q p : Int32} {i k : Nat} {a1 a2 : Nat → Int32} (hp : ¬ p = 0) (hk6 : k ≤ 6) (hi : i < k) :
    ∀ (m j : Nat) (y : Int32) (M a3 : Nat → Int32), j + m = k → ft_ag a3 M → (∀ a3' : Nat → Int32, ft_ag a3' (ft_i p x i m j y M) → J (x / p) (nI (i + 1)) a1 a2 a3') →
      wX_productByCoefficients_41 post J g x (nI i) q p (nI k) (m + 1) y (nI j) a1 a2 a3 := by
  intro m
  induction m with
  | zero =>
    intro j y M a3 hj ha h
    exact br_t (nI_le (by omega) (by omega)) ⟨hp, nm_e (nm_r (nI_1 i) (h a3 ha))⟩
  | succ m ih =>
    intro j y M a3 hj ha h
    refine br_f (nI_ge (by omega) (by omega)) ?_
    rw [nI_add, nI_clamp (show i + j < 2 ^ 31 by omega)]
    have hs : ft_ag (upd a3 (i + j) (a3 (i + j) + (x - x / p * p) * (y - y / p * p))) (upd M (i + j) (M (i + j) + (x - x / p * p) * (y - y / p * p))) :=
      ft_ag_u ha (i + j) (by rw [ha (i + j) (by omega)])
    exact ⟨vp_in_nI (by omega) (by omega), hp, hp, vp_in_nI (by omega) (by omega),
      nm_e ⟨hp, nm_e (nm_r (nI_1 j) (ih (j + 1) (y / p) _ _ (by omega) hs h))⟩⟩
theorem ft_26 {post : Int32 → St2 → Prop} {g q p : Int32} {k : Nat} {a1 a2 : Nat → Int32} (hp : ¬ p = 0) (hk : 0 < k) (hk6 : k ≤ 6) :
    ∀ (m i : Nat) (x : Int32) (M a3 : Nat → Int32), i + m = k → ft_ag a3 M → (∀ a3' : Nat → Int32, post (ft_e p (ft_r k k (ft_o p g k m i x M)) k 0) (q, p, nI k, a1, a2, a3')) →
      wX_productByCoefficients_26 post g q p (nI k) (m + 1) x (nI i) a1 a2 a3 := by
  intro m
  induction m with
  | zero =>
    intro i x M a3 hi ha h
    have e2 : (2 : Int32) * nI k - 1 = nI (k + k) + (-1) := by
      rw [show (2 : Int32) = nI 2 from rfl, pk_mul, show 2 * k = (k + k - 1) + 1 by omega, nI_pred, show k + k = (k + k - 1) + 1 by omega, pk_m1, Nat.add_sub_cancel]
    exact br_t (nI_le (by omega) (by omega)) (nm_r e2 ⟨k + 1, ft_115 hp hk hk6 k M a3 (by omega) ha h⟩)
  | succ m ih =>
    intro i x M a3 hi ha h
    exact br_f (nI_ge (by omega) (by omega)) ⟨k + 1, ft_41 hp hk6 (by omega) k 0 g M a3 (by omega) ha (fun a3' ha' => ih (i + 1) (x / p) _ a3' (by omega) ha' h)⟩
theorem ft_2 {post : Int32 → St2 → Prop} {x g q p : Int32} {k : Nat} {a1 a2 : Nat → Int32} (hp : ¬ p = 0) (hk : 0 < k) (hk6 : k ≤ 6) (h : ∀ a3' : Nat → Int32, post (ft_pv p k x g) (q, p, nI k, a1, a2, a3')) :
    ∀ (m i : Nat) (a3 : Nat → Int32), i + m = 12 → (∀ j, j < i → a3 j = 0) → wX_productByCoefficients_2 post x g q p (nI k) (m + 1) (nI i) a1 a2 a3 := by
  intro m
  induction m with
  | zero =>
    intro i a3 hi ha
    exact pk_le 12 i (fun _ => ⟨k + 1, ft_26 hp hk hk6 k 0 x (fun _ => 0) a3 (by omega) (fun j hj => ha j (by omega)) h⟩) (fun z => absurd z (by omega))
  | succ m ih =>
    intro i a3 hi ha
    refine pk_le 12 i (fun z => absurd z (by omega)) (fun _ => ⟨vp_in_nI (by omega) (by omega), nm_e (nm_r (nI_1 i) (ih (i + 1) _ (by omega) ?_))⟩)
    intro j hj
    rw [nI_clamp (show i < 2 ^ 31 by omega)]
    by_cases c : j = i
    · rw [c, pk_us]
    · rw [pk_un c]
      exact ha j (by omega)
/-- the product by coefficients: its answer is the picture's; of the state the coefficients alone change -/
theorem ft_pbc {post : Int32 → St2 → Prop} {x g q p : Int32} {k : Nat} {a1 a2 a3 : Nat → Int32} (hp : ¬ p = 0) (hk : 0 < k) (hk6 : k ≤ 6) (h : ∀ a3' : Nat → Int32, post (ft_pv p k x g) (q, p, nI k, a1, a2, a3')) :
    wpX_productByCoefficients post (q, p, nI k, a1, a2, a3) x g :=
  ⟨12 + 1, ft_2 hp hk hk6 h 12 0 a3 (by omega) (fun j hj => absurd hj (by omega))⟩
end
section
/-- a table of powers T of g with its logarithms L, for Q elements -/
def ft_good (Q : Nat) (p : Int32) (k : Nat) (g : Int32) (T L : Nat → Nat) : Prop :=
  T 0 = 1 ∧ (∀ n, n < Q - 1 → 0 < n → T n ≠ 1) ∧ (∀ n, n < Q - 1 → T n < 81) ∧ (∀ n, n < Q - 1 → ft_pv p k (nI (T n)) g = nI (T (n + 1))) ∧
    (∀ n, n < Q - 1 → L (T n) = n) ∧ (∀ a, a < Q → 0 < a → L a < Q - 1 ∧ T (L a) = a)
def ft_TA : List Nat := [1, 2, 4, 8, 16, 32, 3, 6, 12, 24, 48, 35, 5, 10, 20, 40, 19, 38, 15, 30, 60, 59, 53, 41, 17, 34, 7, 14, 28, 56, 51, 37, 9, 18, 36, 11, 22, 44, 27, 54, 47, 29, 58, 55, 45, 25, 50, 39, 13, 26, 52, 43, 21, 42, 23, 46, 31, 62, 63, 61, 57, 49, 33, 1]
def ft_LA : List Nat := [0, 0, 1, 6, 2, 12, 7, 26, 3, 32, 13, 35, 8, 48, 27, 18, 4, 24, 33, 16, 14, 52, 36, 54, 9, 45, 49, 38, 28, 41, 19, 56, 5, 62, 25, 11, 34, 31, 17, 47, 15, 23, 53, 51, 37, 44, 55, 40, 10, 61, 46, 30, 50, 22, 39, 43, 29, 60, 42, 21, 20, 59, 57, 58]
theorem ft_A1 : ∀ n, n < 64 - 1 → 0 < n → ft_TA.getD n 0 ≠ 1 := by decide +kernel
theorem ft_A2 : ∀ n, n < 64 - 1 → ft_TA.getD n 0 < 81 := by decide +kernel
theorem ft_A3 : ∀ n, n < 64 - 1 → ft_pv 2 6 (nI (ft_TA.getD n 0)) 2 = nI (ft_TA.getD (n + 1) 0) := by decide +kernel
theorem ft_A4 : ∀ n, n < 64 - 1 → ft_LA.getD (ft_TA.getD n 0) 0 = n := by decide +kernel
theorem ft_A5 : ∀ a, a < 64 → 0 < a → ft_LA.getD a 0 < 64 - 1 ∧ ft_TA.getD (ft_LA.getD a 0) 0 = a := by decide +kernel
theorem ft_goodA : ft_good 64 2 6 2 (fun n => ft_TA.getD n 0) (fun n => ft_LA.getD n 0) :=
  ⟨rfl, ft_A1, ft_A2, ft_A3, ft_A4, ft_A5⟩
def ft_TB : List Nat := [1, 3, 9, 27, 4, 12, 36, 31, 16, 48, 67, 38, 28, 7, 21, 63, 35, 19, 57, 17, 51, 76, 65, 32, 10, 30, 13, 39, 40, 43, 52, 79, 74, 59, 14, 42, 49, 70, 47, 55, 2, 6, 18, 54, 8, 24, 72, 62, 23, 69, 53, 73, 56, 5, 15, 45, 58, 11, 33, 22, 66, 44, 46, 61, 20, 60, 26, 78, 80, 77, 68, 41, 37, 34, 25, 75, 71, 50, 64, 29, 1]
def ft_LB : List Nat := [0, 0, 40, 1, 4, 53, 41, 13, 44, 2, 24, 57, 5, 26, 34, 54, 8, 19, 42, 17, 64, 14, 59, 48, 45, 74, 66, 3, 12, 79, 25, 7, 23, 58, 73, 16, 6, 72, 11, 27, 28, 71, 35, 29, 61, 55, 62, 38, 9, 36, 77, 20, 30, 50, 43, 39, 52, 18, 56, 33, 65, 63, 47, 15, 78, 22, 60, 10, 70, 49, 37, 76, 46, 51, 32, 75, 21, 69, 67, 31, 68]
theorem ft_B1 : ∀ n, n < 81 - 1 → 0 < n → ft_TB.getD n 0 ≠ 1 := by decide +kernel
theorem ft_B2 : ∀ n, n < 81 - 1 → ft_TB.getD n 0 < 81 := by decide +kernel
theorem ft_B3 : ∀ n, n < 81 - 1 → ft_pv 3 4 (nI (ft_TB.getD n 0)) 3 = nI (ft_TB.getD (n + 1) 0) := by decide +kernel
theorem ft_B4 : ∀ n, n < 81 - 1 → ft_LB.getD (ft_TB.getD n 0) 0 = n := by decide +kernel
theorem ft_B5 : ∀ a, a < 81 → 0 < a → ft_LB.getD a 0 < 81 - 1 ∧ ft_TB.getD (ft_LB.getD a 0) 0 = a := by decide +kernel
theorem ft_goodB : ft_good 81 3 4 3 (fun n => ft_TB.getD n 0) (fun n => ft_LB.getD n 0) :=
  ⟨rfl, ft_B1, ft_B2, ft_B3, ft_B4, ft_B5⟩
theorem ft_pA11 : ft_pv 2 6 1 1 = 1 := by decide +kernel
theorem ft_pB11 : ft_pv 3 4 1 1 = 1 := by decide +kernel
theorem ft_pB12 : ft_pv 3 4 1 2 = 2 := by decide +kernel
theorem ft_pB22 : ft_pv 3 4 2 2 = 1 := by decide +kernel
/-- the sum, digit by digit -/
def ft_s (p : Int32) : Nat → Int32 → Int32 → Int32 → Int32 → Int32
  | 0, r, _, _, _ => r
  | m + 1, r, w, x, y => ft_s p m (r + (((x - x / p * p) + (y - y / p * p)) - ((x - x / p * p) + (y - y / p * p)) / p * p) * w) (w * p) (x / p) (y / p)
theorem ft_sAr : ∀ a, a < 64 → ft_s 2 6 0 1 (nI a) 0 = nI a := by decide +kernel
theorem ft_sAl : ∀ a, a < 64 → ft_s 2 6 0 1 0 (nI a) = nI a := by decide +kernel
theorem ft_sBr : ∀ a, a < 81 → ft_s 3 4 0 1 (nI a) 0 = nI a := by decide +kernel
theorem ft_sBl : ∀ a, a < 81 → ft_s 3 4 0 1 0 (nI a) = nI a := by decide +kernel
end
section
/-- the first i powers and their exponents are noted -/
def ft_tab (T : Nat → Nat) (i : Nat) (a1 a2 : Nat → Int32) : Prop := ∀ j, j < i → a1 j = nI (T j) ∧ a2 (T j) = nI j
theorem ft_tab_s {T : Nat → Nat} {i : Nat} {a1 a2 : Nat → Int32} (h : ft_tab T i a1 a2) (hn : ∀ j, j < i → T j ≠ T i) : ft_tab T (i + 1) (upd a1 i (nI (T i))) (upd a2 (T i) (nI i)) := by
  intro j hj
  by_cases c : j = i
  · rw [c]
    exact ⟨pk_us, pk_us⟩
  · have hj' : j < i := by omega
    rw [pk_un c, pk_un (hn j hj')]
    exact h j hj'
theorem ft_q1 {Q : Nat} (h : 0 < Q) : nI Q - 1 = nI (Q - 1) := by
  obtain ⟨n, rfl⟩ : ∃ n, Q = n + 1 := ⟨Q - 1, by omega⟩
  rw [nI_pred, Nat.add_sub_cancel]
theorem ft_25 {post : Int32 → St2 → Prop} {J : Int32 → Int32 → Int32 → Int32 → Int32 → (Nat → Int32) → (Nat → Int32) → (Nat → Int32) → Prop} {g q p : Int32} {k t i : Nat} {a1 a2 a3 : Nat → Int32} (hp : ¬ p = 0) (hk : 0 < k) (hk6 : k ≤ 6) (hi : i < 160) (ht : t < 81)
    (h : ∀ a3' : Nat → Int32, J (ft_pv p k (nI t) g) (nI (i + 1)) q p (nI k) (upd a1 i (nI t)) (upd a2 t (nI i)) a3') : wX_makesAll_25 post J g (nI t) (nI i) q p (nI k) a1 a2 a3 := by
  unfold wX_makesAll_25
  rw [nI_clamp (show i < 2 ^ 31 by omega), nI_clamp (show t < 2 ^ 31 by omega)]
  refine ⟨vp_in_nI hi (by omega), nm_e ⟨vp_in_nI ht (by omega), nm_e (ft_pbc hp hk hk6 (fun a3' => ?_))⟩⟩
  exact nm_r (nI_1 i) (h a3')
theorem ft_mk {post : Int32 → St2 → Prop} {g p : Int32} {Q k : Nat} {T L : Nat → Nat} (hp : ¬ p = 0) (hk : 0 < k) (hk6 : k ≤ 6) (hQ : 2 ≤ Q) (hQ81 : Q ≤ 81) (hg : ft_good Q p k g T L)
    (h : ∀ a1 a2 a3 : Nat → Int32, ft_tab T (Q - 1) a1 a2 → post 1 (nI Q, p, nI k, a1, a2, a3)) :
    ∀ (m i : Nat) (a1 a2 a3 : Nat → Int32), i + m = Q - 1 → ft_tab T i a1 a2 → wX_makesAll_4 post g (m + 1) (nI (T i)) (nI i) (nI Q) p (nI k) a1 a2 a3 := by
  obtain ⟨g0, g1, g2, g3, g4, g5⟩ := hg
  have eq : nI Q - 1 = nI (Q - 1) := ft_q1 (by omega)
  intro m
  induction m with
  | zero =>
    intro i a1 a2 a3 hi ht
    refine br_t ?_ (h a1 a2 a3 ?_)
    · rw [eq]
      exact nI_le (by omega) (by omega)
    · rw [show Q - 1 = i by omega]
      exact ht
  | succ m ih =>
    intro i a1 a2 a3 hi ht
    have hi' : i < Q - 1 := by omega
    have hn : ∀ j, j < i → T j ≠ T i := by
      intro j hj e
      have e4 := g4 j (by omega)
      rw [e, g4 i hi'] at e4
      omega
    have step : wX_makesAll_25 post (wX_makesAll_4 post g (m + 1)) g (nI (T i)) (nI i) (nI Q) p (nI k) a1 a2 a3 := by
      refine ft_25 hp hk hk6 (by omega) (g2 i hi') (fun a3' => ?_)
      rw [g3 i hi']
      exact ih (i + 1) _ _ a3' (by omega) (ft_tab_s ht hn)
    refine br_f ?_ (pk_le i 0 (fun _ => step) (fun z => br_f ?_ step))
    · rw [eq]
      exact nI_ge hi' (by omega)
    · intro e
      have e' : nI (T i) = nI 1 := e
      exact g1 i hi' z ((nI_eq (by have := g2 i hi'; omega) (by omega)).mp e')
theorem ft_mkall {post : Int32 → St2 → Prop} {g p : Int32} {Q k : Nat} {T L : Nat → Nat} {a1 a2 a3 : Nat → Int32} (hp : ¬ p = 0) (hk : 0 < k) (hk6 : k ≤ 6) (hQ : 2 ≤ Q) (hQ81 : Q ≤ 81) (hg : ft_good Q p k g T L)
    (h : ∀ a1 a2 a3 : Nat → Int32, ft_tab T (Q - 1) a1 a2 → post 1 (nI Q, p, nI k, a1, a2, a3)) : wpX_makesAll post (nI Q, p, nI k, a1, a2, a3) g := by
  have t := ft_mk hp hk hk6 hQ hQ81 hg h (Q - 1) 0 a1 a2 a3 (by omega) (fun j hj => absurd hj (by omega))
  rw [hg.1] at t
  exact ⟨_, t⟩
/-- an element whose first power is 1 -/
theorem ft_fail1 {post : Int32 → St2 → Prop} {p : Int32} {Q k : Nat} {a1 a2 a3 : Nat → Int32} (hp : ¬ p = 0) (hk : 0 < k) (hk6 : k ≤ 6) (hQ : 4 ≤ Q) (hQ81 : Q ≤ 81) (e : ft_pv p k 1 1 = 1)
    (h : ∀ a1 a2 a3 : Nat → Int32, post 0 (nI Q, p, nI k, a1, a2, a3)) : wpX_makesAll post (nI Q, p, nI k, a1, a2, a3) 1 := by
  have eq : nI Q - 1 = nI (Q - 1) := ft_q1 (by omega)
  have f0 : ¬ nI Q - 1 ≤ nI 0 := by
    rw [eq]
    exact nI_ge (by omega) (by omega)
  have f1 : ¬ nI Q - 1 ≤ nI 1 := by
    rw [eq]
    exact nI_ge (by omega) (by omega)
  refine ⟨1 + 1, br_f f0 (br_t (by decide) (ft_25 (t := 1) (i := 0) hp hk hk6 (by omega) (by omega) (fun a3' => ?_)))⟩
  rw [show ft_pv p k (nI 1) 1 = 1 from e]
  exact br_f f1 (br_f (by decide) (br_t rfl (h _ _ _)))
/-- an element whose second power is 1 -/
theorem ft_fail2 {post : Int32 → St2 → Prop} {p : Int32} {Q k : Nat} {a1 a2 a3 : Nat → Int32} (hp : ¬ p = 0) (hk : 0 < k) (hk6 : k ≤ 6) (hQ : 4 ≤ Q) (hQ81 : Q ≤ 81) (e : ft_pv p k 1 2 = 2) (e2 : ft_pv p k 2 2 = 1)
    (h : ∀ a1 a2 a3 : Nat → Int32, post 0 (nI Q, p, nI k, a1, a2, a3)) : wpX_makesAll post (nI Q, p, nI k, a1, a2, a3) 2 := by
  have eq : nI Q - 1 = nI (Q - 1) := ft_q1 (by omega)
  have f0 : ¬ nI Q - 1 ≤ nI 0 := by
    rw [eq]
    exact nI_ge (by omega) (by omega)
  have f1 : ¬ nI Q - 1 ≤ nI 1 := by
    rw [eq]
    exact nI_ge (by omega) (by omega)
  have f2 : ¬ nI Q - 1 ≤ nI 2 := by
    rw [eq]
    exact nI_ge (by omega) (by omega)
  refine ⟨1 + 1 + 1, br_f f0 (br_t (by decide) (ft_25 (t := 1) (i := 0) hp hk hk6 (by omega) (by omega) (fun a3' => ?_)))⟩
  rw [show ft_pv p k (nI 1) 2 = nI 2 from e]
  refine br_f f1 (br_f (by decide) (br_f (by decide) (ft_25 (t := 2) (i := 1) hp hk hk6 (by omega) (by omega) (fun a3'' => ?_))))
  rw [show ft_pv p k (nI 2) 2 = 1 from e2]
  exact br_f f2 (br_f (by decide) (br_t rfl (h _ _ _)))
theorem ft_54 {post : St2 → Prop} {p kI : Int32} {Q : Nat} {a2 a3 : Nat → Int32} {T : Nat → Nat} (hQ : 2 ≤ Q) (hQ81 : Q ≤ 81) (h : ∀ a1 : Nat → Int32, ft_tab T (Q - 1) a1 a2 → post (nI Q, p, kI, a1, a2, a3)) :
    ∀ (m n : Nat) (a1 : Nat → Int32), n + m = 2 * Q - 2 → Q - 1 ≤ n → ft_tab T (Q - 1) a1 a2 → wX_build_54 post (nI Q) p kI (m + 1) (nI n) a1 a2 a3 := by
  have e1 : 2 * nI Q - 2 = nI (2 * Q - 2) := by
    rw [show (2 : Int32) = nI 2 from rfl, pk_mul, pk_sub (by omega)]
  intro m
  induction m with
  | zero =>
    intro n a1 hn hq ht
    refine br_t ?_ (h a1 ht)
    rw [e1]
    exact nI_le (by omega) (by omega)
  | succ m ih =>
    intro n a1 hn hq ht
    have e2 : nI n - nI Q + 1 = nI (n + 1 - Q) := by
      have e3 : nI n - nI Q + 1 = nI (n + 1) - nI Q := by
        rw [← nI_1 n]
        grind
      rw [e3, pk_sub (by omega)]
    refine br_f ?_ ?_
    · rw [e1]
      exact nI_ge (by omega) (by omega)
    · rw [e2, nI_clamp (show n + 1 - Q < 2 ^ 31 by omega), nI_clamp (show n < 2 ^ 31 by omega)]
      refine ⟨vp_in_nI (by omega) (by omega), vp_in_nI (by omega) (by omega), nm_e (nm_r (nI_1 n) (ih (n + 1) _ (by omega) (by omega) ?_))⟩
      intro j hj
      rw [pk_un (show j ≠ n by omega)]
      exact ht j hj
/-- the tables as the law needs them: each element other than 0 is the power of its exponent; the exponent of 1 is 0 -/
def ft_pic (Q : Nat) (a1 a2 : Nat → Int32) : Prop := (∀ a, a < Q → 0 < a → ∃ e, e < Q - 1 ∧ a2 a = nI e ∧ a1 e = nI a) ∧ a2 1 = nI 0 ∧ a1 0 = nI 1
theorem ft_pic_of {Q k : Nat} {p g : Int32} {T L : Nat → Nat} {a1 a2 : Nat → Int32} (hQ : 2 ≤ Q) (hg : ft_good Q p k g T L) (h : ft_tab T (Q - 1) a1 a2) : ft_pic Q a1 a2 := by
  obtain ⟨g0, g1, g2, g3, g4, g5⟩ := hg
  have h0 := h 0 (by omega)
  rw [g0] at h0
  refine ⟨fun a ha hp => ?_, h0.2, h0.1⟩
  obtain ⟨l1, l2⟩ := g5 a ha hp
  have hl := h (L a) l1
  rw [l2] at hl
  exact ⟨L a, l1, hl.2, hl.1⟩
theorem ft_end {post : St2 → Prop} {p g kI : Int32} {Q k : Nat} {a1 a2 a3 : Nat → Int32} {T L : Nat → Nat} (hQ : 2 ≤ Q) (hQ81 : Q ≤ 81) (hg : ft_good Q p k g T L) (ht : ft_tab T (Q - 1) a1 a2)
    (h : ∀ a1 a2 a3 : Nat → Int32, ft_pic Q a1 a2 → post (nI Q, p, kI, a1, a2, a3)) : ∃ n, wX_build_54 post (nI Q) p kI n (nI Q - 1) a1 a2 a3 := by
  rw [ft_q1 (show 0 < Q by omega)]
  exact ⟨(Q - 1) + 1, ft_54 hQ hQ81 (fun a1' ht' => h a1' a2 a3 (ft_pic_of hQ hg ht')) (Q - 1) (Q - 1) a1 (by omega) (by omega) ht⟩
theorem ft_buildA {post : St2 → Prop} {q0 p0 k0 : Int32} {a1 a2 a3 : Nat → Int32} (h : ∀ a1 a2 a3 : Nat → Int32, ft_pic 64 a1 a2 → post (nI 64, 2, nI 6, a1, a2, a3)) : wpX_build post (q0, p0, k0, a1, a2, a3) 64 2 6 := by
  refine ⟨1 + 1, br_f (by decide) (ft_fail1 (Q := 64) (k := 6) (p := 2) (by decide) (by decide) (by decide) (by decide) (by decide) ft_pA11 (fun b1 b2 b3 => ?_))⟩
  refine br_t rfl (nm_e (nm_e (br_f (by decide) (ft_mkall (Q := 64) (k := 6) (p := 2) (g := 2) (by decide) (by decide) (by decide) (by decide) (by decide) ft_goodA (fun c1 c2 c3 ht => ?_)))))
  exact br_f (by decide) (nm_e (ft_end (by decide) (by decide) ft_goodA ht h))
theorem ft_buildB {post : St2 → Prop} {q0 p0 k0 : Int32} {a1 a2 a3 : Nat → Int32} (h : ∀ a1 a2 a3 : Nat → Int32, ft_pic 81 a1 a2 → post (nI 81, 3, nI 4, a1, a2, a3)) : wpX_build post (q0, p0, k0, a1, a2, a3) 81 3 4 := by
  refine ⟨1 + 1 + 1, br_f (by decide) (ft_fail1 (Q := 81) (k := 4) (p := 3) (by decide) (by decide) (by decide) (by decide) (by decide) ft_pB11 (fun b1 b2 b3 => ?_))⟩
  refine br_t rfl (nm_e (nm_e (br_f (by decide) (ft_fail2 (Q := 81) (k := 4) (p := 3) (by decide) (by decide) (by decide) (by decide) (by decide) ft_pB12 ft_pB22 (fun d1 d2 d3 => ?_)))))
  refine br_t rfl (nm_e (nm_e (br_f (by decide) (ft_mkall (Q := 81) (k := 4) (p := 3) (g := 3) (by decide) (by decide) (by decide) (by decide) (by decide) ft_goodB (fun c1 c2 c3 ht => ?_)))))
  exact br_f (by decide) (nm_e (ft_end (by decide) (by decide) ft_goodB ht h))
theorem ft_use {post : Int32 → St2 → Prop} {x q0 p0 k0 : Int32} {a1 a2 a3 : Nat → Int32} (h1 : x = 64 → ∀ a1 a2 a3 : Nat → Int32, ft_pic 64 a1 a2 → post 0 (nI 64, 2, nI 6, a1, a2, a3)) (h2 : x = 81 → ∀ a1 a2 a3 : Nat → Int32, ft_pic 81 a1 a2 → post 0 (nI 81, 3, nI 4, a1, a2, a3))
    (h3 : ¬ x = 64 → ¬ x = 81 → post (-1) (q0, p0, k0, a1, a2, a3)) : wpX_use post (q0, p0, k0, a1, a2, a3) x := by
  refine br_c (fun z => ?_) (fun z => br_c (fun y => ?_) (fun y => h3 z y))
  · subst z
    exact br_t rfl (br_t rfl (ft_buildA (h1 rfl)))
  · subst y
    exact br_f (by decide) (br_f (by decide) (ft_buildB (h2 rfl)))
end
section
/-- the state behind use: one of the two fields, its tables built -/
def ft_ok (Q : Nat) (p kI : Int32) (a1 a2 : Nat → Int32) : Prop := ((Q = 64 ∧ p = 2 ∧ kI = nI 6) ∨ (Q = 81 ∧ p = 3 ∧ kI = nI 4)) ∧ ft_pic Q a1 a2
/-- the law's 'in': x is an element -/
def ft_in (Q : Nat) (x x7 : Int32) : Prop := (x7 = 0 ∧ (x < 0 ∨ nI Q ≤ x)) ∨ (x7 = 1 ∧ ∃ a, a < Q ∧ x = nI a)
/-- the law's 'exponent' -/
def ft_ex (n x8 : Int32) : Prop := (x8 = 0 ∧ (n < 0 ∨ 1000000 < n)) ∨ (x8 = 1 ∧ ¬ n < 0 ∧ ¬ 1000000 < n)
/-- the law's 'sub' -/
def ft_sub (Q : Nat) (s z : Int32) : Prop :=
  (Q = 64 ∧ ((z = 0 ∧ ¬ s = 2 ∧ ¬ s = 4 ∧ ¬ s = 8 ∧ ¬ s = 64) ∨ (z = 1 ∧ (s = 2 ∨ s = 4 ∨ s = 8 ∨ s = 64)))) ∨
    (Q = 81 ∧ ((z = 0 ∧ ¬ s = 3 ∧ ¬ s = 9 ∧ ¬ s = 81) ∨ (z = 1 ∧ (s = 3 ∨ s = 9 ∨ s = 81))))
theorem ft_10 : ¬ (1 : Int32) = 0 := by decide
theorem ft_okQ {Q : Nat} {p kI : Int32} {a1 a2 : Nat → Int32} (h : ft_ok Q p kI a1 a2) : 64 ≤ Q ∧ Q ≤ 81 := by
  rcases h.1 with ⟨e, _, _⟩ | ⟨e, _, _⟩ <;> omega
theorem ft_el1 {post : Int32 → Prop} {Q a : Nat} {p kI : Int32} {a1 a2 a3 : Nat → Int32} (hQ : Q ≤ 81) (ha : a < Q) (h : post 1) : wpX_isElement post (nI Q, p, kI, a1, a2, a3) (nI a) :=
  br_f (nI_pos (by omega)) (br_f (nI_ge ha (by omega)) h)
theorem ft_el0 {post : Int32 → Prop} {q x p kI : Int32} {a1 a2 a3 : Nat → Int32} (hx : x < 0 ∨ q ≤ x) (h : post 0) : wpX_isElement post (q, p, kI, a1, a2, a3) x :=
  br_c (fun _ => h) (fun z => br_t (hx.resolve_left z) h)
theorem ft_14 {post : Int32 → Prop} {q p : Int32} {k : Nat} {a1 a2 a3 : Nat → Int32} (hp : ¬ p = 0) (hk : k ≤ 6) :
    ∀ (m i : Nat) (r w x y : Int32), i + m = k → post (ft_s p m r w x y) → wX_sumOf_14 post q p (nI k) a1 a2 a3 (m + 1) r w x y (nI i) := by
  intro m
  induction m with
  | zero =>
    intro i r w x y hi h
    exact br_t (nI_le (by omega) (by omega)) h
  | succ m ih =>
    intro i r w x y hi h
    exact br_f (nI_ge (by omega) (by omega)) ⟨hp, hp, hp, nm_e (nm_e ⟨hp, nm_e ⟨hp, nm_e (nm_r (nI_1 i) (ih (i + 1) _ _ _ _ (by omega) h))⟩⟩)⟩
theorem ft_sumr {post : Int32 → Prop} {Q a : Nat} {p kI : Int32} {a1 a2 a3 : Nat → Int32} (hok : ft_ok Q p kI a1 a2) (ha : a < Q) (h : post (nI a)) : wpX_sumOf post (nI Q, p, kI, a1, a2, a3) (nI a) 0 := by
  rcases hok.1 with ⟨rfl, rfl, rfl⟩ | ⟨rfl, rfl, rfl⟩
  · exact ⟨6 + 1, ft_14 (by decide) (by decide) 6 0 0 1 (nI a) 0 (by decide) (by rw [ft_sAr a ha]; exact h)⟩
  · exact ⟨4 + 1, ft_14 (by decide) (by decide) 4 0 0 1 (nI a) 0 (by decide) (by rw [ft_sBr a ha]; exact h)⟩
theorem ft_suml {post : Int32 → Prop} {Q a : Nat} {p kI : Int32} {a1 a2 a3 : Nat → Int32} (hok : ft_ok Q p kI a1 a2) (ha : a < Q) (h : post (nI a)) : wpX_sumOf post (nI Q, p, kI, a1, a2, a3) 0 (nI a) := by
  rcases hok.1 with ⟨rfl, rfl, rfl⟩ | ⟨rfl, rfl, rfl⟩
  · exact ⟨6 + 1, ft_14 (by decide) (by decide) 6 0 0 1 0 (nI a) (by decide) (by rw [ft_sAl a ha]; exact h)⟩
  · exact ⟨4 + 1, ft_14 (by decide) (by decide) 4 0 0 1 0 (nI a) (by decide) (by rw [ft_sBl a ha]; exact h)⟩
theorem ft_add {post : Int32 → Prop} {Q : Nat} {p kI x x7 : Int32} {a1 a2 a3 : Nat → Int32} (hok : ft_ok Q p kI a1 a2) (hin : ft_in Q x x7) (h0 : x7 = 0 → post (-1)) (h1 : ¬ x7 = 0 → post x) : wpX_add post (nI Q, p, kI, a1, a2, a3) x 0 := by
  have hQ := ft_okQ hok
  unfold wpX_add
  rcases hin with ⟨e7, hx⟩ | ⟨e7, a, ha, rfl⟩
  · exact ft_el0 hx (br_t rfl (h0 e7))
  · have h1' := h1 (by rw [e7]; decide)
    exact ft_el1 hQ.2 ha (br_f ft_10 (ft_el1 (a := 0) hQ.2 (by omega) (br_f ft_10 (ft_sumr hok ha h1'))))
theorem ft_c1 : (1 : Int32).toNatClampNeg = 1 := by decide
theorem ft_prod1 {post : Int32 → Prop} {Q a : Nat} {p kI : Int32} {a1 a2 a3 : Nat → Int32} (hok : ft_ok Q p kI a1 a2) (ha : a < Q) (h : post (nI a)) : wpX_productOf post (nI Q, p, kI, a1, a2, a3) (nI a) 1 := by
  have hQ := ft_okQ hok
  obtain ⟨_, pa, p1, p0⟩ := hok
  rcases Nat.eq_zero_or_pos a with c | c
  · rw [c] at h ⊢
    exact br_t rfl h
  · obtain ⟨e, he, e2, e1⟩ := pa a ha c
    refine br_f (nI_ne0 c (by omega)) (br_f ft_10 ?_)
    rw [ft_c1, nI_clamp (show a < 2 ^ 31 by omega), e2, p1, nI_add, nI_clamp (show e + 0 < 2 ^ 31 by omega)]
    exact ⟨vp_in_nI (by omega) (by omega), pk_in 1 81 (by omega), vp_in_nI (by omega) (by omega), by rw [Nat.add_zero, e1]; exact h⟩
theorem ft_mul {post : Int32 → Prop} {Q : Nat} {p kI x x7 : Int32} {a1 a2 a3 : Nat → Int32} (hok : ft_ok Q p kI a1 a2) (hin : ft_in Q x x7) (h0 : x7 = 0 → post (-1)) (h1 : ¬ x7 = 0 → post x) : wpX_multiply post (nI Q, p, kI, a1, a2, a3) x 1 := by
  have hQ := ft_okQ hok
  unfold wpX_multiply
  rcases hin with ⟨e7, hx⟩ | ⟨e7, a, ha, rfl⟩
  · exact ft_el0 hx (br_t rfl (h0 e7))
  · have h1' := h1 (by rw [e7]; decide)
    exact ft_el1 hQ.2 ha (br_f ft_10 (ft_el1 (a := 1) hQ.2 (by omega) (br_f ft_10 (ft_prod1 hok ha h1'))))
theorem ft_pow0 {post : Int32 → Prop} {Q : Nat} {p kI x x7 : Int32} {a1 a2 a3 : Nat → Int32} (hok : ft_ok Q p kI a1 a2) (hin : ft_in Q x x7) (h0 : x7 = 0 → post (-1)) (h1 : ¬ x7 = 0 → post 1) : wpX_power post (nI Q, p, kI, a1, a2, a3) x 0 := by
  have hQ := ft_okQ hok
  unfold wpX_power
  rcases hin with ⟨e7, hx⟩ | ⟨e7, a, ha, rfl⟩
  · exact ft_el0 hx (br_t rfl (h0 e7))
  · have h1' := h1 (by rw [e7]; decide)
    exact ft_el1 hQ.2 ha (br_f ft_10 (br_f (by decide) (br_f (by decide) (br_t rfl h1'))))
/-- the place that powerOf reads -/
theorem ft_ix {Q e j : Nat} (hQ : 2 ≤ Q) (hQ81 : Q ≤ 81) (he : e < 81) (hj : j < 2 ^ 31) :
    ((nI e).toInt64 * (nI j).toInt64 - (nI e).toInt64 * (nI j).toInt64 / (nI Q - 1).toInt64 * (nI Q - 1).toInt64).toInt32 = nI (e * j % (Q - 1)) := by
  have hm : e * j ≤ 80 * 2 ^ 31 := Nat.mul_le_mul (by omega) (by omega)
  rw [ft_q1 (show 0 < Q by omega), nI_l (show e < 2 ^ 31 by omega), nI_l hj, nI_l (show Q - 1 < 2 ^ 31 by omega), lN_mul, pk_lRem (by omega) (by omega) (by omega), lN_i]
theorem ft_q64 {Q : Nat} (hQ : 2 ≤ Q) (hQ81 : Q ≤ 81) : ¬ (nI Q - 1).toInt64 = 0 := by
  rw [ft_q1 (show 0 < Q by omega), nI_l (show Q - 1 < 2 ^ 31 by omega)]
  intro e
  have e' : lN (Q - 1) = lN 0 := e
  have := (lN_eq (by omega) (by omega)).mp e'
  omega
theorem ft_powOf {post : Int32 → Prop} {Q a j : Nat} {p kI : Int32} {a1 a2 a3 : Nat → Int32} (hok : ft_ok Q p kI a1 a2) (ha : a < Q) (hj : j < 2 ^ 31) (hz : j = 0 → post 1) (h0 : a = 0 → post 0)
    (h : ∀ e, e < Q - 1 → a2 a = nI e → post (a1 (e * j % (Q - 1)))) : wpX_powerOf post (nI Q, p, kI, a1, a2, a3) (nI a) (nI j) := by
  have hQ := ft_okQ hok
  obtain ⟨_, pa, _⟩ := hok
  refine pk_eq j 0 hz (fun _ => pk_eq a 0 h0 (fun c => ?_))
  obtain ⟨e, he, e2, _⟩ := pa a ha (by omega)
  have hr : e * j % (Q - 1) < Q - 1 := Nat.mod_lt _ (by omega)
  rw [nI_clamp (show a < 2 ^ 31 by omega), e2, ft_ix (by omega) (by omega) (by omega) hj, nI_clamp (by omega)]
  exact ⟨vp_in_nI (by omega) (by omega), ft_q64 (by omega) (by omega), vp_in_nI (by omega) (by omega), h e he e2⟩
theorem ft_pow1 {post : Int32 → Prop} {Q : Nat} {p kI n x8 : Int32} {a1 a2 a3 : Nat → Int32} (hok : ft_ok Q p kI a1 a2) (hex : ft_ex n x8) (h0 : x8 = 0 → post (-1)) (h1 : ¬ x8 = 0 → post 1) : wpX_power post (nI Q, p, kI, a1, a2, a3) 1 n := by
  have hQ := ft_okQ hok
  unfold wpX_power
  refine ft_el1 (a := 1) hQ.2 (by omega) (br_f ft_10 ?_)
  rcases hex with ⟨e8, hx⟩ | ⟨e8, n0, n1⟩
  · exact br_c (fun _ => h0 e8) (fun z => br_t (hx.resolve_left z) (h0 e8))
  · have h1' := h1 (by rw [e8]; decide)
    refine br_f n0 (br_f n1 ?_)
    obtain ⟨j, hj, rfl⟩ := nI_of n0
    refine ft_powOf (a := 1) hok (by omega) hj (fun _ => h1') (fun z => absurd z (by decide)) (fun e he e2 => ?_)
    obtain ⟨_, _, p1, p0⟩ := hok
    have e3 : nI e = nI 0 := by rw [← e2, p1]
    have e4 : e = 0 := (nI_eq (by omega) (by omega)).mp e3
    rw [e4, Nat.zero_mul, Nat.zero_mod, p0]
    exact h1'
theorem ft_lt0 {n : Int32} (h : n < 0) : n < 1 := by
  rw [Int32.lt_iff_toInt_lt] at h ⊢
  have e0 : (0 : Int32).toInt = 0 := by decide
  have e1 : (1 : Int32).toInt = 1 := by decide
  omega
theorem ft_lt1 {n : Int32} : n < 1 ↔ n ≤ 0 := by
  rw [Int32.lt_iff_toInt_lt, Int32.le_iff_toInt_le]
  have e0 : (0 : Int32).toInt = 0 := by decide
  have e1 : (1 : Int32).toInt = 1 := by decide
  omega
theorem ft_ltM {n : Int32} : ¬ n ≤ 1000000 ↔ 1000000 < n := by
  rw [Int32.lt_iff_toInt_lt, Int32.le_iff_toInt_le]
  omega
theorem ft_roots0 {post : Int32 → Prop} {Q : Nat} {p kI n x8 : Int32} {a1 a2 a3 : Nat → Int32} (hok : ft_ok Q p kI a1 a2) (hex : ft_ex n x8) (h0 : x8 = 0 → post (-1)) (h1 : ¬ x8 = 0 → n ≤ 0 → post (-1)) (h2 : ¬ x8 = 0 → ¬ n ≤ 0 → post 1) : wpX_roots post (nI Q, p, kI, a1, a2, a3) 0 n := by
  have hQ := ft_okQ hok
  unfold wpX_roots
  refine ft_el1 (a := 0) hQ.2 (by omega) (br_f ft_10 ?_)
  rcases hex with ⟨e8, hx⟩ | ⟨e8, n0, n1⟩
  · rcases hx with z | z
    · exact br_t (ft_lt0 z) (h0 e8)
    · exact br_c (fun _ => h0 e8) (fun _ => br_f (ft_ltM.mpr z) (h0 e8))
  · have n8 : ¬ x8 = 0 := by rw [e8]; decide
    refine br_c (fun z => h1 n8 (ft_lt1.mp z)) (fun z => br_c (fun _ => br_t rfl (h2 n8 (fun y => z (ft_lt1.mpr y)))) (fun y => absurd (ft_ltM.mp y) n1))
/-- a trace of 0: the sizes alone go on -/
def ft_tr (q s : Int32) : Nat → Int32 → Bool
  | 0, _ => false
  | n + 1, x => if q < x then true else ft_tr q s n (x * s)
theorem ft_tr0 {post : Int32 → Prop} {Q : Nat} {p kI s : Int32} {a1 a2 a3 : Nat → Int32} (hok : ft_ok Q p kI a1 a2) (hs : ¬ s = 0) (h : post 0) :
    ∀ (n : Nat) (x : Int32), ft_tr (nI Q) s n x = true → wX_trace_26 post s (nI Q) p kI a1 a2 a3 n 0 0 x := by
  have hQ := ft_okQ hok
  intro n
  induction n with
  | zero =>
    intro x e
    exact absurd e (by simp [ft_tr])
  | succ n ih =>
    intro x e
    by_cases c : nI Q < x
    · exact br_t c h
    · have e' : ft_tr (nI Q) s n (x * s) = true := by
        rw [ft_tr, if_neg c] at e
        exact e
      refine br_f c (ft_suml (a := 0) hok (by omega) ?_)
      exact br_f hs (br_t rfl (nm_e (ih _ e')))
theorem ft_trace0 {post : Int32 → Prop} {Q : Nat} {p kI s z : Int32} {a1 a2 a3 : Nat → Int32} (hok : ft_ok Q p kI a1 a2) (hs : ft_sub Q s z) (h0 : z = 0 → post (-1)) (h1 : ¬ z = 0 → post 0) : wpX_trace post (nI Q, p, kI, a1, a2, a3) 0 s := by
  have hQ := ft_okQ hok
  unfold wpX_trace
  refine ft_el1 (a := 0) hQ.2 (by omega) (br_f ft_10 ?_)
  have hok' := hok
  rcases hok.1 with ⟨rfl, rfl, rfl⟩ | ⟨rfl, rfl, rfl⟩
  · rcases hs with ⟨_, hs⟩ | ⟨e, _⟩
    · rcases hs with ⟨ez, s1, s2, s3, s4⟩ | ⟨ez, hs⟩
      · exact br_t rfl (br_f s1 (br_f s2 (br_f s3 (br_f s4 (br_t rfl (h0 ez))))))
      · have h1' := h1 (by rw [ez]; decide)
        rcases hs with rfl | rfl | rfl | rfl
        · exact br_t rfl (br_t rfl (br_f ft_10 ⟨7, ft_tr0 hok' (by decide) h1' 7 2 (by decide)⟩))
        · exact br_t rfl (br_f (by decide) (br_t rfl (br_f ft_10 ⟨7, ft_tr0 hok' (by decide) h1' 7 4 (by decide)⟩)))
        · exact br_t rfl (br_f (by decide) (br_f (by decide) (br_t rfl (br_f ft_10 ⟨7, ft_tr0 hok' (by decide) h1' 7 8 (by decide)⟩))))
        · exact br_t rfl (br_f (by decide) (br_f (by decide) (br_f (by decide) (br_t rfl (br_f ft_10 ⟨7, ft_tr0 hok' (by decide) h1' 7 64 (by decide)⟩)))))
    · exact absurd e (by decide)
  · rcases hs with ⟨e, _⟩ | ⟨_, hs⟩
    · exact absurd e (by decide)
    · rcases hs with ⟨ez, s1, s2, s3⟩ | ⟨ez, hs⟩
      · exact br_f (by decide) (br_f s1 (br_f s2 (br_f s3 (br_t rfl (h0 ez)))))
      · have h1' := h1 (by rw [ez]; decide)
        rcases hs with rfl | rfl | rfl
        · exact br_f (by decide) (br_t rfl (br_f ft_10 ⟨7, ft_tr0 hok' (by decide) h1' 7 3 (by decide)⟩))
        · exact br_f (by decide) (br_f (by decide) (br_t rfl (br_f ft_10 ⟨7, ft_tr0 hok' (by decide) h1' 7 9 (by decide)⟩)))
        · exact br_f (by decide) (br_f (by decide) (br_f (by decide) (br_t rfl (br_f ft_10 ⟨7, ft_tr0 hok' (by decide) h1' 7 81 (by decide)⟩))))
/-- the whole field is a field of the class's list -/
theorem ft_fld {post : Int32 → Prop} {Q : Nat} {p kI : Int32} {a1 a2 a3 : Nat → Int32} (hok : ft_ok Q p kI a1 a2) (h : post 1) : wpX_isField post (nI Q, p, kI, a1, a2, a3) (nI Q) := by
  rcases hok.1 with ⟨rfl, rfl, rfl⟩ | ⟨rfl, rfl, rfl⟩
  · exact br_t rfl (br_f (by decide) (br_f (by decide) (br_f (by decide) (br_t rfl h))))
  · exact br_f (by decide) (br_f (by decide) (br_f (by decide) (br_t rfl h)))
theorem ft_tracem {post : Int32 → Prop} {Q : Nat} {p kI x x7 : Int32} {a1 a2 a3 : Nat → Int32} (hok : ft_ok Q p kI a1 a2) (hin : ft_in Q x x7) (h0 : x7 = 0 → post (-1)) (h1 : ¬ x7 = 0 → post x) : wpX_trace post (nI Q, p, kI, a1, a2, a3) x (nI Q) := by
  have hQ := ft_okQ hok
  unfold wpX_trace
  rcases hin with ⟨e7, hx⟩ | ⟨e7, a, ha, rfl⟩
  · exact ft_el0 hx (br_t rfl (h0 e7))
  · have h1' := h1 (by rw [e7]; decide)
    have hlt : nI Q < nI Q * nI Q := by
      rcases hok.1 with ⟨rfl, _, _⟩ | ⟨rfl, _, _⟩ <;> decide
    have last : ∀ r : Int32, ∀ w : Int32, w = nI Q * nI Q → wX_trace_26 post (nI Q) (nI Q) p kI a1 a2 a3 (0 + 1) (nI a) r w := fun r => nm_e (br_t hlt h1')
    refine ft_el1 hQ.2 ha (br_f ft_10 (ft_fld hok (br_f ft_10 ⟨0 + 1 + 1, br_f (nI_nlt (by omega) (by omega)) (ft_suml hok ha ?_)⟩)))
    exact ft_powOf hok ha (by omega) (fun _ => last _) (fun _ => last _) (fun _ _ _ => last _)
theorem ft_order1 {post : Int32 → Prop} {Q : Nat} {p kI : Int32} {a1 a2 a3 : Nat → Int32} (hok : ft_ok Q p kI a1 a2) (h : post 1) : wpX_order post (nI Q, p, kI, a1, a2, a3) 1 := by
  have hQ := ft_okQ hok
  unfold wpX_order
  have p1 := hok.2.2.1
  have hne : ¬ nI Q - 1 = 0 := by
    rcases hok.1 with ⟨rfl, _, _⟩ | ⟨rfl, _, _⟩ <;> decide
  have hdv : (nI Q - 1) / (nI Q - 1) = 1 := by
    rcases hok.1 with ⟨rfl, _, _⟩ | ⟨rfl, _, _⟩ <;> decide
  refine ft_el1 (a := 1) hQ.2 (by omega) (br_f ft_10 (br_f ft_10 ?_))
  rw [ft_c1, p1]
  refine ⟨pk_in 1 81 (by omega), ⟨0 + 1, br_f (by decide) (br_t (by decide) ⟨hne, ?_⟩)⟩⟩
  rw [hdv]
  exact h
theorem ft_inv0 {post : Int32 → Prop} {Q : Nat} {p kI : Int32} {a1 a2 a3 : Nat → Int32} (hok : ft_ok Q p kI a1 a2) (h : post (-1)) : wpX_invert post (nI Q, p, kI, a1, a2, a3) 0 := by
  have hQ := ft_okQ hok
  unfold wpX_invert
  exact ft_el1 (a := 0) hQ.2 (by omega) (br_f ft_10 (br_t rfl h))
end
section
section
variable {post : Int32 → St0 → Prop} {mc ms kc ks Q : Nat} {p kI x1 x2 x3 x7 x8 : Int32} {a1 a2 a3 : Nat → Int32}
theorem ft_303 {z : Int32} (h : post 1 ()) (hok : ft_ok Q p kI a1 a2) : wL_lawOf_303 post mc ms z z kc ks (nI Q) p kI a1 a2 a3 :=
  br_t rfl (ft_order1 hok (br_t rfl (ft_inv0 hok (br_t rfl h))))
theorem ft_282 {z : Int32} (h : post 1 ()) (hok : ft_ok Q p kI a1 a2) (hin : ft_in Q x1 x7) : wL_lawOf_282 post mc ms x1 (nI Q) x7 z z kc ks (nI Q) p kI a1 a2 a3 :=
  br_t rfl (ft_tracem hok hin (fun e => br_t e (ft_303 h hok)) (fun e => br_f e (ft_303 h hok)))
theorem ft_263 {z : Int32} (h : post 1 ()) (hok : ft_ok Q p kI a1 a2) (hin : ft_in Q x1 x7) (hs : ft_sub Q x3 z) : wL_lawOf_263 post mc ms x1 x3 (nI Q) x7 z kc ks (nI Q) p kI a1 a2 a3 :=
  ft_trace0 hok hs (fun e => br_t e (ft_282 h hok hin)) (fun e => br_f e (ft_282 h hok hin))
theorem ft_199 {z : Int32} (h : post 1 ()) (hok : ft_ok Q p kI a1 a2) (hin : ft_in Q x1 x7) : wL_lawOf_199 post mc ms x1 x3 (nI Q) x7 z z kc ks (nI Q) p kI a1 a2 a3 := by
  refine br_t rfl ?_
  have H : ∀ z : Int32, ft_sub Q x3 z → wL_lawOf_263 post mc ms x1 x3 (nI Q) x7 z kc ks (nI Q) p kI a1 a2 a3 := fun z hs => ft_263 h hok hin hs
  rcases hok.1 with ⟨rfl, _, _⟩ | ⟨rfl, _, _⟩
  · refine br_t rfl (br_c (fun e => H 1 (Or.inl ⟨rfl, Or.inr ⟨rfl, Or.inl e⟩⟩)) (fun n1 => br_c (fun e => H 1 (Or.inl ⟨rfl, Or.inr ⟨rfl, Or.inr (Or.inl e)⟩⟩)) (fun n2 => br_c (fun e => H 1 (Or.inl ⟨rfl, Or.inr ⟨rfl, Or.inr (Or.inr (Or.inl e))⟩⟩)) (fun n3 => br_c (fun e => H 1 (Or.inl ⟨rfl, Or.inr ⟨rfl, Or.inr (Or.inr (Or.inr e))⟩⟩)) (fun n4 => H 0 (Or.inl ⟨rfl, Or.inl ⟨rfl, n1, n2, n3, n4⟩⟩))))))
  · refine br_f (by decide) (br_c (fun e => H 1 (Or.inr ⟨rfl, Or.inr ⟨rfl, Or.inl e⟩⟩)) (fun n1 => br_c (fun e => H 1 (Or.inr ⟨rfl, Or.inr ⟨rfl, Or.inr (Or.inl e)⟩⟩)) (fun n2 => br_c (fun e => H 1 (Or.inr ⟨rfl, Or.inr ⟨rfl, Or.inr (Or.inr e)⟩⟩)) (fun n3 => H 0 (Or.inr ⟨rfl, Or.inl ⟨rfl, n1, n2, n3⟩⟩)))))
theorem ft_175 {z : Int32} (h : post 1 ()) (hok : ft_ok Q p kI a1 a2) (hin : ft_in Q x1 x7) (hex : ft_ex x2 x8) : wL_lawOf_175 post mc ms x1 x2 x3 (nI Q) x7 x8 z z kc ks (nI Q) p kI a1 a2 a3 :=
  br_t rfl (ft_roots0 hok hex (fun e => br_t e (ft_199 h hok hin)) (fun e y => br_f e (br_t y (ft_199 h hok hin))) (fun e y => br_f e (br_f y (ft_199 h hok hin))))
theorem ft_156 (h : post 1 ()) (hok : ft_ok Q p kI a1 a2) (hin : ft_in Q x1 x7) (hex : ft_ex x2 x8) : wL_lawOf_156 post mc ms x1 x2 x3 (nI Q) x7 x8 kc ks (nI Q) p kI a1 a2 a3 :=
  ft_pow1 hok hex (fun e => br_t e (ft_175 h hok hin hex)) (fun e => br_f e (ft_175 h hok hin hex))
theorem ft_136 {z : Int32} (h : post 1 ()) (hok : ft_ok Q p kI a1 a2) (hin : ft_in Q x1 x7) : wL_lawOf_136 post mc ms x1 x2 x3 (nI Q) x7 z z kc ks (nI Q) p kI a1 a2 a3 :=
  br_t rfl (br_c (fun e => ft_156 h hok hin (Or.inl ⟨rfl, Or.inl e⟩)) (fun n => br_c (fun e => ft_156 h hok hin (Or.inl ⟨rfl, Or.inr e⟩)) (fun e => ft_156 h hok hin (Or.inr ⟨rfl, n, e⟩))))
theorem ft_116 {z : Int32} (h : post 1 ()) (hok : ft_ok Q p kI a1 a2) (hin : ft_in Q x1 x7) : wL_lawOf_116 post mc ms x1 x2 x3 (nI Q) x7 z z kc ks (nI Q) p kI a1 a2 a3 :=
  br_t rfl (ft_pow0 hok hin (fun e => br_t e (ft_136 h hok hin)) (fun e => br_f e (ft_136 h hok hin)))
theorem ft_96 {z : Int32} (h : post 1 ()) (hok : ft_ok Q p kI a1 a2) (hin : ft_in Q x1 x7) : wL_lawOf_96 post mc ms x1 x2 x3 (nI Q) x7 z z kc ks (nI Q) p kI a1 a2 a3 :=
  br_t rfl (ft_mul hok hin (fun e => br_t e (ft_116 h hok hin)) (fun e => br_f e (ft_116 h hok hin)))
theorem ft_77 (h : post 1 ()) (hok : ft_ok Q p kI a1 a2) (hin : ft_in Q x1 x7) : wL_lawOf_77 post mc ms x1 x2 x3 (nI Q) x7 kc ks (nI Q) p kI a1 a2 a3 :=
  ft_add hok hin (fun e => br_t e (ft_96 h hok hin)) (fun e => br_f e (ft_96 h hok hin))
theorem ft_60 (h : post 1 ()) (hok : ft_ok Q p kI a1 a2) : wL_lawOf_60 post mc ms x1 x2 x3 (nI Q) kc ks (nI Q) p kI a1 a2 a3 := by
  have hQ := ft_okQ hok
  refine br_c (fun e => ft_77 h hok (Or.inl ⟨rfl, Or.inl e⟩)) (fun n => br_c (fun e => ft_77 h hok (Or.inl ⟨rfl, Or.inr e⟩)) (fun e => ft_77 h hok (Or.inr ⟨rfl, ?_⟩)))
  rcases pk_ix x1 (n := Q) (by omega) with y | y | y
  · exact absurd y n
  · exact absurd y e
  · exact y
end
theorem ft_okA {a1 a2 : Nat → Int32} (h : ft_pic 64 a1 a2) : ft_ok 64 2 (nI 6) a1 a2 := ⟨Or.inl ⟨rfl, rfl, rfl⟩, h⟩
theorem ft_okB {a1 a2 : Nat → Int32} (h : ft_pic 81 a1 a2) : ft_ok 81 3 (nI 4) a1 a2 := ⟨Or.inr ⟨rfl, rfl, rfl⟩, h⟩
theorem ft_lawOf {post : Int32 → St0 → Prop} {x0 x1 x2 x3 : Int32} (h : post 1 ()) : wpL_lawOf post 4 259 () x0 x1 x2 x3 := by
  refine ⟨by decide, by decide, 3, 253, by decide, by decide, ⟨by decide, by decide, by decide, by decide, by decide, by decide, ft_buildA (fun b1 b2 b3 hb => ?_)⟩⟩
  refine br_c (fun e => ?_) (fun n1 => br_c (fun e => ?_) (fun n2 => ?_))
  · subst e
    exact ft_use (fun _ a1 a2 a3 ha => br_f ft_10 (br_t rfl (br_f ft_10 (ft_60 (Q := 64) h (ft_okA ha))))) (fun e => absurd e (by decide)) (fun e => absurd rfl e)
  · subst e
    exact ft_use (fun e => absurd e (by decide)) (fun _ a1 a2 a3 ha => br_f ft_10 (br_t rfl (br_f ft_10 (ft_60 (Q := 81) h (ft_okB ha))))) (fun _ e => absurd rfl e)
  · exact ft_use (fun e => absurd e n1) (fun e => absurd e n2) (fun _ _ => br_t rfl (br_t rfl (br_t rfl (ft_60 (Q := 64) h (ft_okA hb)))))
theorem ft_cell {post : Int32 → Prop} {L : Nat} {xs : Nat → Int32} (hL : L ≤ 4) (i : Nat) (hi : i < 4) (h : ∀ r, post r) : wpL_cellAt post L xs () (nI i) :=
  pk_le L i (fun _ => h 0) (fun z => ⟨vp_in_nI z (by omega), h _⟩)
theorem i_vc (xs : Nat → Int32) (L : Nat) (hL : L ≤ 4) : wpL_law (fun r => r = 1) L xs :=
  ft_cell hL 0 (by decide) (fun r1 => ft_cell hL 1 (by decide) (fun r2 => ft_cell hL 2 (by decide) (fun r3 => ft_cell hL 3 (by decide) (fun r4 => ⟨4, 259, by decide, by decide, ft_lawOf rfl⟩))))
end
