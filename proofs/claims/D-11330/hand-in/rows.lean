section
/-! ===== the pure picture: products by coefficients, tables of powers and exponents ===== -/
def ft_up (c : Nat → Nat) (i v : Nat) : Nat → Nat := fun t => cond (Nat.beq t i) v (c t)
theorem ft_up_s {c : Nat → Nat} {i v : Nat} : ft_up c i v i = v := by
  show cond (Nat.beq i i) v (c i) = v
  cases e : Nat.beq i i with
  | true => rfl
  | false => exact absurd rfl (Nat.ne_of_beq_eq_false e)
theorem ft_up_n {c : Nat → Nat} {i v t : Nat} (h : t ≠ i) : ft_up c i v t = c t := by
  show cond (Nat.beq t i) v (c t) = c t
  cases e : Nat.beq t i with
  | true => exact absurd (Nat.eq_of_beq_eq_true e) h
  | false => rfl
/-- one row of the product: m columns are left, y is what is left of b, j the column -/
def ft_in (p x i : Nat) : Nat → Nat → Nat → (Nat → Nat) → (Nat → Nat)
  | 0, _, _, c => c
  | m + 1, y, j, c => ft_in p x i m (y / p) (j + 1) (ft_up c (i + j) (c (i + j) + x % p * (y % p)))
/-- m rows are left, x is what is left of a, i the row -/
def ft_out (p k b : Nat) : Nat → Nat → Nat → (Nat → Nat) → (Nat → Nat)
  | 0, _, _, c => c
  | m + 1, x, i, c => ft_out p k b m (x / p) (i + 1) (ft_in p x i k b 0 c)
/-- the reduction: places k + m - 1 down to k are left -/
def ft_red (k : Nat) : Nat → (Nat → Nat) → (Nat → Nat)
  | 0, c => c
  | m + 1, c => ft_red k m (ft_up (ft_up c m (c m + c (m + k))) (m + 1) (ft_up c m (c m + c (m + k)) (m + 1) + ft_up c m (c m + c (m + k)) (m + k)))
/-- the number out of its places -/
def ft_fin (p : Nat) (c : Nat → Nat) : Nat → Nat → Nat
  | 0, r => r
  | m + 1, r => ft_fin p c m (r * p + c m % p)
def ft_cc (p k a b : Nat) : Nat → Nat := ft_red k k (ft_out p k b k a 0 (fun _ => 0))
def ft_pb (p k a b : Nat) : Nat := ft_fin p (ft_cc p k a b) k 0
/-- the sum: m places are left -/
def ft_sm (p : Nat) : Nat → Nat → Nat → Nat → Nat → Nat
  | 0, s, _, _, _ => s
  | m + 1, s, w, x, y => ft_sm p m (s + (x % p + y % p) % p * w) (w * p) (x / p) (y / p)
def ft_P2 (n : Nat) : Nat := ([1, 2, 4, 8, 16, 32, 3, 6, 12, 24, 48, 35, 5, 10, 20, 40, 19, 38, 15, 30, 60, 59, 53, 41, 17, 34, 7, 14, 28, 56, 51, 37, 9, 18, 36, 11, 22, 44, 27, 54, 47, 29, 58, 55, 45, 25, 50, 39, 13, 26, 52, 43, 21, 42, 23, 46, 31, 62, 63, 61, 57, 49, 33, 1] : List Nat).getD n 0
def ft_E2 (n : Nat) : Nat := ([0, 0, 1, 6, 2, 12, 7, 26, 3, 32, 13, 35, 8, 48, 27, 18, 4, 24, 33, 16, 14, 52, 36, 54, 9, 45, 49, 38, 28, 41, 19, 56, 5, 62, 25, 11, 34, 31, 17, 47, 15, 23, 53, 51, 37, 44, 55, 40, 10, 61, 46, 30, 50, 22, 39, 43, 29, 60, 42, 21, 20, 59, 57, 58] : List Nat).getD n 0
def ft_P3 (n : Nat) : Nat := ([1, 3, 9, 27, 4, 12, 36, 31, 16, 48, 67, 38, 28, 7, 21, 63, 35, 19, 57, 17, 51, 76, 65, 32, 10, 30, 13, 39, 40, 43, 52, 79, 74, 59, 14, 42, 49, 70, 47, 55, 2, 6, 18, 54, 8, 24, 72, 62, 23, 69, 53, 73, 56, 5, 15, 45, 58, 11, 33, 22, 66, 44, 46, 61, 20, 60, 26, 78, 80, 77, 68, 41, 37, 34, 25, 75, 71, 50, 64, 29, 1] : List Nat).getD n 0
def ft_E3 (n : Nat) : Nat := ([0, 0, 40, 1, 4, 53, 41, 13, 44, 2, 24, 57, 5, 26, 34, 54, 8, 19, 42, 17, 64, 14, 59, 48, 45, 74, 66, 3, 12, 79, 25, 7, 23, 58, 73, 16, 6, 72, 11, 27, 28, 71, 35, 29, 61, 55, 62, 38, 9, 36, 77, 20, 30, 50, 43, 39, 52, 18, 56, 33, 65, 63, 47, 15, 78, 22, 60, 10, 70, 49, 37, 76, 46, 51, 32, 75, 21, 69, 67, 31, 68] : List Nat).getD n 0
/-- what a round of makesAll asks of a sequence R up to m -/
def ft_seq (p k g : Nat) (R : Nat → Nat) (m : Nat) : Prop :=
  R 0 = 1 ∧ (∀ n, n < m → ft_pb p k (R n) g = R (n + 1)) ∧ (∀ n, n < m → ∀ j, j < k → ft_cc p k (R n) g j < 2 ^ 31) ∧ (∀ n, n < m → R n < 81) ∧ (∀ n, n < m → 0 < n → R n ≠ 1) ∧ (∀ s t, s < m → t < m → R s = R t → s = t)
theorem ft_inj {E R : Nat → Nat} {m : Nat} (h : ∀ n, n < m → E (R n) = n) : ∀ s t, s < m → t < m → R s = R t → s = t := by
  intro s t hs ht e
  have h1 := h s hs
  rw [e, h t ht] at h1
  exact h1.symm
theorem ft_P2_step : ∀ n, n < 63 → ft_pb 2 6 (ft_P2 n) 2 = ft_P2 (n + 1) := by decide +kernel
theorem ft_P2_bd : ∀ n, n < 63 → ∀ j, j < 6 → ft_cc 2 6 (ft_P2 n) 2 j < 2 ^ 31 := by decide +kernel
theorem ft_P2_lt : ∀ n, n < 63 → ft_P2 n < 64 := by decide +kernel
theorem ft_P2_ne : ∀ n, n < 63 → 0 < n → ft_P2 n ≠ 1 := by decide +kernel
theorem ft_P2_E : ∀ n, n < 63 → ft_E2 (ft_P2 n) = n := by decide +kernel
theorem ft_E2_P : ∀ a, a < 64 → a ≠ 0 → ft_E2 a < 63 ∧ ft_P2 (ft_E2 a) = a := by decide +kernel
theorem ft_P3_step : ∀ n, n < 80 → ft_pb 3 4 (ft_P3 n) 3 = ft_P3 (n + 1) := by decide +kernel
theorem ft_P3_bd : ∀ n, n < 80 → ∀ j, j < 4 → ft_cc 3 4 (ft_P3 n) 3 j < 2 ^ 31 := by decide +kernel
theorem ft_P3_lt : ∀ n, n < 80 → ft_P3 n < 81 := by decide +kernel
theorem ft_P3_ne : ∀ n, n < 80 → 0 < n → ft_P3 n ≠ 1 := by decide +kernel
theorem ft_P3_E : ∀ n, n < 80 → ft_E3 (ft_P3 n) = n := by decide +kernel
theorem ft_E3_P : ∀ a, a < 81 → a ≠ 0 → ft_E3 a < 80 ∧ ft_P3 (ft_E3 a) = a := by decide +kernel
theorem ft_seq2 : ft_seq 2 6 2 ft_P2 63 :=
  ⟨by decide +kernel, ft_P2_step, ft_P2_bd, fun n hn => Nat.lt_trans (ft_P2_lt n hn) (by decide), ft_P2_ne, ft_inj ft_P2_E⟩
theorem ft_seq3 : ft_seq 3 4 3 ft_P3 80 :=
  ⟨by decide +kernel, ft_P3_step, ft_P3_bd, ft_P3_lt, ft_P3_ne, ft_inj ft_P3_E⟩
/-- g = 1: comes back at once -/
def ft_R1 (n : Nat) : Nat := ([1, 1] : List Nat).getD n 0
/-- g = 2 where p = 3: comes back after two -/
def ft_R2 (n : Nat) : Nat := ([1, 2, 1] : List Nat).getD n 0
theorem ft_seq21 : ft_seq 2 6 1 ft_R1 1 :=
  ⟨by decide +kernel, by decide +kernel, by decide +kernel, by decide +kernel, by decide +kernel, ft_inj (E := fun x => x - 1) (by decide +kernel)⟩
theorem ft_seq31 : ft_seq 3 4 1 ft_R1 1 :=
  ⟨by decide +kernel, by decide +kernel, by decide +kernel, by decide +kernel, by decide +kernel, ft_inj (E := fun x => x - 1) (by decide +kernel)⟩
theorem ft_seq32 : ft_seq 3 4 2 ft_R2 2 :=
  ⟨by decide +kernel, by decide +kernel, by decide +kernel, by decide +kernel, by decide +kernel, ft_inj (E := fun x => x - 1) (by decide +kernel)⟩
/-! ===== the law's own formulas ===== -/
theorem ft_sum2 : ∀ a, a < 64 → ∀ b, b < 64 → nI (ft_sm 2 6 0 1 a b) = nI a ^^^ nI b := by decide +kernel
theorem ft_up2 : ∀ a, a < 64 → nI (if a = 0 then 0 else ft_P2 ((ft_E2 a + 1) % 63)) = ((nI a <<< ((1 : Int32) &&& 31)) &&& 63) ^^^ ((nI a >>> ((5 : Int32) &&& 31)) * 3) := by decide +kernel
theorem ft_up3 : ∀ a, a < 81 → nI (if a = 0 then 0 else ft_P3 ((ft_E3 a + 1) % 80)) = (((nI a / 27) + (3 * (((nI a - nI a / 3 * 3) + (nI a / 27)) - ((nI a - nI a / 3 * 3) + (nI a / 27)) / 3 * 3))) + (9 * ((nI a / 3) - (nI a / 3) / 3 * 3))) + (27 * ((nI a / 9) - (nI a / 9) / 3 * 3)) := by decide +kernel
theorem ft_pw2 : ∀ m, m < 4 → nI (ft_P2 (m % 63)) = (1 : Int32) <<< (nI m &&& 31) := by decide +kernel
theorem ft_sumN : ∀ a, a < 81 → ∀ b, b < 81 → ft_sm 3 4 0 1 a b = (a % 3 + b % 3) % 3 + 3 * ((a / 3 % 3 + b / 3 % 3) % 3) + 9 * ((a / 9 % 3 + b / 9 % 3) % 3) + 27 * ((a / 27 + b / 27) % 3) := by decide +kernel
theorem ft_r3 {a : Nat} (h : a < 1000) : nI a - nI a / 3 * 3 = nI (a % 3) := pk_rem (d := 3) (by omega) (by omega) (by omega)
theorem ft_d3 {a : Nat} (h : a < 1000) : nI a / 3 = nI (a / 3) := pk_div (d := 3) (by omega) (by omega) (by omega)
theorem ft_d9 {a : Nat} (h : a < 1000) : nI a / 9 = nI (a / 9) := pk_div (d := 9) (by omega) (by omega) (by omega)
theorem ft_d27 {a : Nat} (h : a < 1000) : nI a / 27 = nI (a / 27) := pk_div (d := 27) (by omega) (by omega) (by omega)
theorem ft_m3 (a : Nat) : (3 : Int32) * nI a = nI (3 * a) := pk_mul 3 a
theorem ft_m9 (a : Nat) : (9 : Int32) * nI a = nI (9 * a) := pk_mul 9 a
theorem ft_m27 (a : Nat) : (27 : Int32) * nI a = nI (27 * a) := pk_mul 27 a
theorem ft_ss3 {a b : Nat} (ha : a < 1000) (hb : b < 1000) : ((nI a - nI a / 3 * 3) + (nI b - nI b / 3 * 3)) - ((nI a - nI a / 3 * 3) + (nI b - nI b / 3 * 3)) / 3 * 3 = nI ((a % 3 + b % 3) % 3) := by
  rw [ft_r3 ha, ft_r3 hb, nI_add, ft_r3 (by omega)]
theorem ft_sum3 {a b : Nat} (ha : a < 81) (hb : b < 81) : nI (ft_sm 3 4 0 1 a b) = (((((nI a - nI a / 3 * 3) + (nI b - nI b / 3 * 3)) - ((nI a - nI a / 3 * 3) + (nI b - nI b / 3 * 3)) / 3 * 3) + (3 * ((((nI a / 3) - (nI a / 3) / 3 * 3) + ((nI b / 3) - (nI b / 3) / 3 * 3)) - (((nI a / 3) - (nI a / 3) / 3 * 3) + ((nI b / 3) - (nI b / 3) / 3 * 3)) / 3 * 3))) + (9 * ((((nI a / 9) - (nI a / 9) / 3 * 3) + ((nI b / 9) - (nI b / 9) / 3 * 3)) - (((nI a / 9) - (nI a / 9) / 3 * 3) + ((nI b / 9) - (nI b / 9) / 3 * 3)) / 3 * 3))) + (27 * (((nI a / 27) + (nI b / 27)) - ((nI a / 27) + (nI b / 27)) / 3 * 3)) := by
  rw [ft_ss3 (a := a) (b := b) (by omega) (by omega), ft_d9 (a := a) (by omega), ft_d9 (a := b) (by omega), ft_ss3 (a := a / 9) (b := b / 9) (by omega) (by omega), ft_d27 (a := a) (by omega), ft_d27 (a := b) (by omega), nI_add (a / 27) (b / 27), ft_r3 (a := a / 27 + b / 27) (by omega), ft_d3 (a := a) (by omega), ft_d3 (a := b) (by omega), ft_ss3 (a := a / 3) (b := b / 3) (by omega) (by omega), ft_m3, ft_m9, ft_m27, nI_add, nI_add, nI_add, ft_sumN a ha b hb]
end
section
/-! ===== the walk: productByCoefficients, makesAll, build ===== -/
/-- the twelve coefficients are c -/
def ft_C (a3 : Nat → Int32) (c : Nat → Nat) : Prop := ∀ j, j < 12 → a3 j = nI (c j)
theorem ft_C_up {a3 : Nat → Int32} {c : Nat → Nat} {i v : Nat} {x : Int32} (h : ft_C a3 c) (hx : x = nI v) : ft_C (upd a3 i x) (ft_up c i v) := by
  intro j hj
  by_cases e : j = i
  · rw [e, pk_us, ft_up_s, hx]
  · rw [pk_un e, ft_up_n e]
    exact h j hj
theorem ft_dl {x p : Nat} (h : x < 2 ^ 31) : x / p < 2 ^ 31 := Nat.lt_of_le_of_lt (Nat.div_le_self x p) h
theorem ft_187 {post : Int32 → St2 → Prop} {q k : Int32} {p : Nat} {a1 a2 a3 : Nat → Int32} {c : Nat → Nat} (hp0 : 0 < p) (hp : p < 100) (hc : ft_C a3 c) :
    ∀ (m r : Nat), m ≤ 12 → (∀ j, j < m → c j < 2 ^ 31) → post (nI (ft_fin p c m r)) (q, nI p, k, a1, a2, a3) → wX_productByCoefficients_187 post q (nI p) k a1 a2 a3 (m + 1) (nI r) (nI m + (-1))
  | 0, r, _, _, H => br_t (by rw [nI_0]; decide) H
  | m + 1, r, hm, hb, H => by
    rw [pk_m1]
    refine br_f (nI_pos (by omega)) ⟨vp_in_nI (by omega) (by omega), nI_ne0 hp0 (by omega), fun x4 e4 x5 e5 => ?_⟩
    rw [nI_clamp (by omega), hc m (by omega), pk_rem (hb m (by omega)) hp0 (by omega), pk_mul, nI_add] at e4
    subst e4 e5
    exact ft_187 hp0 hp hc m _ (by omega) (fun j hj => hb j (by omega)) H
theorem ft_115 {post : Int32 → St2 → Prop} {q : Int32} {p k : Nat} {a1 a2 : Nat → Int32} (hp0 : 0 < p) (hp : p < 100) (hk0 : 0 < k) (hk : k ≤ 6) :
    ∀ (m : Nat) (a3 : Nat → Int32) (c : Nat → Nat), m ≤ k → ft_C a3 c → (∀ j, j < k → ft_red k m c j < 2 ^ 31) → (∀ a3', post (nI (ft_fin p (ft_red k m c) k 0)) (q, nI p, nI k, a1, a2, a3')) → wX_productByCoefficients_115 post q (nI p) (nI k) (m + 1) (nI (m + k) + (-1)) a1 a2 a3
  | 0, a3, c, _, hc, hb, H => by
    have e : nI (0 + k) + (-1) = nI (k - 1) := by rw [Nat.zero_add, sb_m1 hk0]
    rw [e]
    refine br_t (nI_lt (by omega) (by omega)) (fun x5 e5 => ⟨k + 1, ?_⟩)
    have e6 : x5 = nI k + (-1) := by
      rw [e5, sb_m1 hk0]
      exact pk_sub (b := 1) (by omega)
    rw [e6]
    exact ft_187 hp0 hp hc k 0 (by omega) hb (H a3)
  | m + 1, a3, c, hm, hc, hb, H => by
    have e : nI (m + 1 + k) + (-1) = nI (m + k) := by rw [show m + 1 + k = m + k + 1 by omega, pk_m1]
    have es : nI (m + k) - nI k = nI m := by rw [pk_sub (by omega), Nat.add_sub_cancel]
    have c1 : (nI m).toNatClampNeg = m := nI_clamp (by omega)
    have c2 : (nI (m + 1)).toNatClampNeg = m + 1 := nI_clamp (by omega)
    have c3 : (nI (m + k)).toNatClampNeg = m + k := nI_clamp (by omega)
    rw [e]
    refine br_f (nI_nlt (by omega) (by omega)) ?_
    rw [es, nI_1]
    refine ⟨vp_in_nI (by omega) (by omega), vp_in_nI (by omega) (by omega), vp_in_nI (by omega) (by omega), fun b eb => ⟨vp_in_nI (by omega) (by omega), vp_in_nI (by omega) (by omega), vp_in_nI (by omega) (by omega), fun b2 eb2 x ex => ?_⟩⟩
    rw [c1, c3] at eb
    rw [c2, c3] at eb2
    have h1 : ft_C b (ft_up c m (c m + c (m + k))) := by
      rw [eb]
      exact ft_C_up hc (by rw [hc m (by omega), hc (m + k) (by omega), nI_add])
    have h2 : ft_C b2 (ft_up (ft_up c m (c m + c (m + k))) (m + 1) (ft_up c m (c m + c (m + k)) (m + 1) + ft_up c m (c m + c (m + k)) (m + k))) := by
      rw [eb2]
      exact ft_C_up h1 (by rw [h1 (m + 1) (by omega), h1 (m + k) (by omega), nI_add])
    subst ex
    exact ft_115 hp0 hp hk0 hk m b2 _ (by omega) h2 hb H
theorem ft_41 {post : Int32 → St2 → Prop} {J : Int32 → Int32 → (Nat → Int32) → (Nat → Int32) → (Nat → Int32) → Prop} {x2 q : Int32} {p k x i : Nat} {a1 a2 : Nat → Int32} (hp0 : 0 < p) (hp : p < 100) (hk : k ≤ 6) (hi : i < k) (hx : x < 2 ^ 31) :
    ∀ (m y j : Nat) (a3 : Nat → Int32) (c : Nat → Nat), j + m = k → y < 2 ^ 31 → ft_C a3 c → (∀ a3', ft_C a3' (ft_in p x i m y j c) → J (nI (x / p)) (nI (i + 1)) a1 a2 a3') → wX_productByCoefficients_41 post J x2 (nI x) (nI i) q (nI p) (nI k) (m + 1) (nI y) (nI j) a1 a2 a3
  | 0, y, j, a3, c, h, hy, hc, H => by
    refine br_t (nI_le (by omega) (by omega)) ⟨nI_ne0 hp0 (by omega), fun x3 e3 x4 e4 => ?_⟩
    rw [pk_div hx hp0 (by omega)] at e3
    rw [nI_1] at e4
    subst e3 e4
    exact H a3 hc
  | m + 1, y, j, a3, c, h, hy, hc, H => by
    have hn : ¬ nI p = 0 := nI_ne0 hp0 (by omega)
    refine br_f (nI_ge (by omega) (by omega)) ?_
    rw [nI_add i j]
    refine ⟨vp_in_nI (by omega) (by omega), hn, hn, vp_in_nI (by omega) (by omega), fun b eb => ⟨hn, fun x5 e5 x6 e6 => ?_⟩⟩
    rw [nI_clamp (by omega), hc (i + j) (by omega), pk_rem hx hp0 (by omega), pk_rem hy hp0 (by omega), pk_mul, nI_add] at eb
    rw [pk_div hy hp0 (by omega)] at e5
    rw [nI_1] at e6
    subst eb e5 e6
    exact ft_41 hp0 hp hk hi hx m (y / p) (j + 1) _ _ (by omega) (ft_dl hy) (ft_C_up hc rfl) H
theorem ft_26 {post : Int32 → St2 → Prop} {q : Int32} {p k b : Nat} {a1 a2 : Nat → Int32} (hp0 : 0 < p) (hp : p < 100) (hk0 : 0 < k) (hk : k ≤ 6) (hb : b < 2 ^ 31) :
    ∀ (m x i : Nat) (a3 : Nat → Int32) (c : Nat → Nat), i + m = k → x < 2 ^ 31 → ft_C a3 c → (∀ j, j < k → ft_red k k (ft_out p k b m x i c) j < 2 ^ 31) → (∀ a3', post (nI (ft_fin p (ft_red k k (ft_out p k b m x i c)) k 0)) (q, nI p, nI k, a1, a2, a3')) → wX_productByCoefficients_26 post (nI b) q (nI p) (nI k) (m + 1) (nI x) (nI i) a1 a2 a3
  | 0, x, i, a3, c, h, hx, hc, hd, H => by
    refine br_t (nI_le (by omega) (by omega)) (fun x4 e4 => ⟨k + 1, ?_⟩)
    have e : x4 = nI (k + k) + (-1) := by
      rw [e4, sb_m1 (by omega)]
      show nI 2 * nI k - nI 1 = nI (k + k - 1)
      rw [pk_mul, pk_sub (by omega), Nat.two_mul]
    rw [e]
    exact ft_115 hp0 hp hk0 hk k a3 c (by omega) hc hd H
  | m + 1, x, i, a3, c, h, hx, hc, hd, H =>
    br_f (nI_ge (by omega) (by omega)) ⟨k + 1, ft_41 (J := wX_productByCoefficients_26 post (nI b) q (nI p) (nI k) (m + 1)) hp0 hp hk (by omega) hx k b 0 a3 c (by omega) hb hc (fun a3' hc' => ft_26 hp0 hp hk0 hk hb m (x / p) (i + 1) a3' _ (by omega) (ft_dl hx) hc' hd H)⟩
theorem ft_2 {post : Int32 → St2 → Prop} {q : Int32} {p k a b : Nat} {a1 a2 : Nat → Int32} (hp0 : 0 < p) (hp : p < 100) (hk0 : 0 < k) (hk : k ≤ 6) (ha : a < 2 ^ 31) (hb : b < 2 ^ 31) (hd : ∀ j, j < k → ft_cc p k a b j < 2 ^ 31) (H : ∀ a3', post (nI (ft_pb p k a b)) (q, nI p, nI k, a1, a2, a3')) :
    ∀ (m i : Nat) (a3 : Nat → Int32), i + m = 12 → (∀ t, t < i → a3 t = nI 0) → wX_productByCoefficients_2 post (nI a) (nI b) q (nI p) (nI k) (m + 1) (nI i) a1 a2 a3
  | 0, i, a3, h, hz => br_t (show nI 12 ≤ nI i from nI_le (by omega) (by omega)) ⟨k + 1, ft_26 hp0 hp hk0 hk hb k a 0 a3 (fun _ => 0) (by omega) ha (fun j hj => hz j (by omega)) hd H⟩
  | m + 1, i, a3, h, hz => by
    refine br_f (show ¬ nI 12 ≤ nI i from nI_ge (by omega) (by omega)) ⟨vp_in_nI (by omega) (by omega), fun b eb x ex => ?_⟩
    rw [nI_clamp (by omega)] at eb
    rw [nI_1] at ex
    subst eb ex
    refine ft_2 hp0 hp hk0 hk ha hb hd H m (i + 1) _ (by omega) (fun t ht => ?_)
    by_cases e : t = i
    · rw [e, pk_us, nI_0]
    · rw [pk_un e]
      exact hz t (by omega)
theorem ft_pbc {post : Int32 → St2 → Prop} {q : Int32} {p k a b : Nat} {a1 a2 a3 : Nat → Int32} (hp0 : 0 < p) (hp : p < 100) (hk0 : 0 < k) (hk : k ≤ 6) (ha : a < 2 ^ 31) (hb : b < 2 ^ 31) (hd : ∀ j, j < k → ft_cc p k a b j < 2 ^ 31) (H : ∀ a3', post (nI (ft_pb p k a b)) (q, nI p, nI k, a1, a2, a3')) :
    wpX_productByCoefficients post (q, nI p, nI k, a1, a2, a3) (nI a) (nI b) :=
  ⟨13, ft_2 hp0 hp hk0 hk ha hb hd H 12 0 a3 rfl (fun t ht => absurd ht (by omega))⟩
theorem ft_s1 {q : Nat} (h : 1 ≤ q) : nI q - 1 = nI (q - 1) := pk_sub (b := 1) h
/-- the loop of makesAll up to m, where He says how it goes on -/
theorem ft_ma4 {post : Int32 → St2 → Prop} {q p k g m : Nat} {R : Nat → Nat} (hp0 : 0 < p) (hp : p < 100) (hk0 : 0 < k) (hk : k ≤ 6) (hg : g < 100) (hq : q ≤ 81) (hm : m + 1 ≤ q) (hs : ft_seq p k g R m)
    (He : ∀ n a1 a2 a3, (∀ t, t < m → a1 t = nI (R t)) → (∀ t, t < m → a2 (R t) = nI t) → wX_makesAll_4 post (nI g) (n + 1) (nI (R m)) (nI m) (nI q) (nI p) (nI k) a1 a2 a3) :
    ∀ (d n : Nat) (a1 a2 a3 : Nat → Int32), n + d = m → (∀ t, t < n → a1 t = nI (R t)) → (∀ t, t < n → a2 (R t) = nI t) → wX_makesAll_4 post (nI g) (d + 1) (nI (R n)) (nI n) (nI q) (nI p) (nI k) a1 a2 a3
  | 0, n, a1, a2, a3, h, h1, h2 => by
    have e : n = m := by omega
    subst e
    exact He 0 a1 a2 a3 h1 h2
  | d + 1, n, a1, a2, a3, h, h1, h2 => by
    have hn : n < m := by omega
    have hR := hs.2.2.2.1 n hn
    have X : wX_makesAll_25 post (wX_makesAll_4 post (nI g) (d + 1)) (nI g) (nI (R n)) (nI n) (nI q) (nI p) (nI k) a1 a2 a3 := by
      refine ⟨vp_in_nI (by omega) (by omega), fun b1 e1 => ⟨vp_in_nI (by omega) (by omega), fun b2 e2 => ?_⟩⟩
      rw [nI_clamp (by omega)] at e1 e2
      refine ft_pbc hp0 hp hk0 hk (by omega) (by omega) (hs.2.2.1 n hn) (fun a3' => ?_)
      intro x ex
      rw [nI_1] at ex
      rw [hs.2.1 n hn, ex]
      refine ft_ma4 hp0 hp hk0 hk hg hq hm hs He d (n + 1) b1 b2 a3' (by omega) (fun t ht => ?_) (fun t ht => ?_)
      · rw [e1]
        by_cases e : t = n
        · rw [e, pk_us]
        · rw [pk_un e]
          exact h1 t (by omega)
      · rw [e2]
        by_cases e : t = n
        · rw [e, pk_us]
        · rw [pk_un (fun z => e (hs.2.2.2.2.2 t n (by omega) hn z))]
          exact h2 t (by omega)
    refine br_f (by rw [ft_s1 (by omega)]; exact nI_ge (by omega) (by omega)) ?_
    by_cases e : n = 0
    · exact br_t (by rw [e]; decide) X
    · exact br_f (nI_nle (by omega) (by omega)) (br_f (fun z => hs.2.2.2.2.1 n hn (by omega) ((nI_eq (b := 1) (by omega) (by omega)).mp z)) X)
theorem ft_maF {post : Int32 → St2 → Prop} {q p k g m : Nat} {R : Nat → Nat} {a1 a2 a3 : Nat → Int32} (hp0 : 0 < p) (hp : p < 100) (hk0 : 0 < k) (hk : k ≤ 6) (hg : g < 100) (hq : q ≤ 81) (hm0 : 0 < m) (hm : m + 1 < q) (hs : ft_seq p k g R m) (hR : R m = 1)
    (H : ∀ a1 a2 a3, post 0 (nI q, nI p, nI k, a1, a2, a3)) : wpX_makesAll post (nI q, nI p, nI k, a1, a2, a3) (nI g) := by
  have h := ft_ma4 (post := post) hp0 hp hk0 hk hg hq (by omega) hs (fun n b1 b2 b3 _ _ => br_f (by rw [ft_s1 (by omega)]; exact nI_ge (by omega) (by omega)) (br_f (nI_nle hm0 (by omega)) (br_t (show nI (R m) = nI 1 from congrArg nI hR) (H b1 b2 b3)))) m 0 a1 a2 a3 (by omega) (fun t ht => absurd ht (by omega)) (fun t ht => absurd ht (by omega))
  rw [hs.1] at h
  exact ⟨m + 1, h⟩
theorem ft_maT {post : Int32 → St2 → Prop} {q p k g m : Nat} {R : Nat → Nat} {a1 a2 a3 : Nat → Int32} (hp0 : 0 < p) (hp : p < 100) (hk0 : 0 < k) (hk : k ≤ 6) (hg : g < 100) (hq : q ≤ 81) (hm : m + 1 = q) (hs : ft_seq p k g R m)
    (H : ∀ a1 a2 a3, (∀ t, t < m → a1 t = nI (R t)) → (∀ t, t < m → a2 (R t) = nI t) → post 1 (nI q, nI p, nI k, a1, a2, a3)) : wpX_makesAll post (nI q, nI p, nI k, a1, a2, a3) (nI g) := by
  have h := ft_ma4 (post := post) hp0 hp hk0 hk hg hq (by omega) hs (fun n b1 b2 b3 h1 h2 => br_t (by rw [ft_s1 (by omega)]; exact nI_le (by omega) (by omega)) (H b1 b2 b3 h1 h2)) m 0 a1 a2 a3 (by omega) (fun t ht => absurd ht (by omega)) (fun t ht => absurd ht (by omega))
  rw [hs.1] at h
  exact ⟨m + 1, h⟩
/-- what the tables hold behind build -/
def ft_T (m : Nat) (R : Nat → Nat) (a1 a2 : Nat → Int32) : Prop := (∀ t, t < 2 * m → a1 t = nI (R (t % m))) ∧ (∀ t, t < m → a2 (R t) = nI t)
theorem ft_54 {post : St2 → Prop} {p k : Int32} {m : Nat} {R : Nat → Nat} {a2 a3 : Nat → Int32} (hm0 : 0 < m) (hm : m ≤ 80) (H : ∀ a1, (∀ t, t < 2 * m → a1 t = nI (R (t % m))) → post (nI (m + 1), p, k, a1, a2, a3)) :
    ∀ (d n : Nat) (a1 : Nat → Int32), n + d = 2 * m → m ≤ n → (∀ t, t < n → a1 t = nI (R (t % m))) → wX_build_54 post (nI (m + 1)) p k (d + 1) (nI n) a1 a2 a3
  | 0, n, a1, h, hn, h1 => by
    have e : (2 : Int32) * nI (m + 1) - 2 = nI (2 * m) := by
      show nI 2 * nI (m + 1) - nI 2 = nI (2 * m)
      rw [pk_mul, pk_sub (by omega)]
      exact congrArg nI (by omega)
    have en : n = 2 * m := by omega
    subst en
    exact br_t (by rw [e]; exact nI_le (by omega) (by omega)) (H a1 h1)
  | d + 1, n, a1, h, hn, h1 => by
    have e : (2 : Int32) * nI (m + 1) - 2 = nI (2 * m) := by
      show nI 2 * nI (m + 1) - nI 2 = nI (2 * m)
      rw [pk_mul, pk_sub (by omega)]
      exact congrArg nI (by omega)
    have ei : nI n - nI (m + 1) + 1 = nI (n - m) := by
      rw [show nI n - nI (m + 1) + 1 = (nI n + 1) - nI (m + 1) by grind, nI_1, pk_sub (by omega)]
      exact congrArg nI (by omega)
    refine br_f (by rw [e]; exact nI_ge (by omega) (by omega)) ?_
    rw [ei]
    refine ⟨vp_in_nI (by omega) (by omega), vp_in_nI (by omega) (by omega), fun b eb x ex => ?_⟩
    rw [nI_clamp (by omega), nI_clamp (by omega), h1 (n - m) (by omega), ← Nat.mod_eq_sub_mod hn] at eb
    rw [nI_1] at ex
    subst eb ex
    refine ft_54 hm0 hm H d (n + 1) _ (by omega) (by omega) (fun t ht => ?_)
    by_cases e : t = n
    · rw [e, pk_us]
    · rw [pk_un e]
      exact h1 t (by omega)
/-- the end of build, behind the round that made all -/
theorem ft_b54 {post : St2 → Prop} {p k : Int32} {m : Nat} {R : Nat → Nat} {a1 a2 a3 : Nat → Int32} (hm0 : 0 < m) (hm : m ≤ 80) (h1 : ∀ t, t < m → a1 t = nI (R t)) (h2 : ∀ t, t < m → a2 (R t) = nI t) (H : ∀ b1 b2 b3, ft_T m R b1 b2 → post (nI (m + 1), p, k, b1, b2, b3)) :
    ∀ x : Int32, x = nI (m + 1) - 1 → ∃ fu, wX_build_54 post (nI (m + 1)) p k fu x a1 a2 a3 := by
  intro x ex
  rw [nI_pred] at ex
  subst ex
  exact ⟨m + 1, ft_54 hm0 hm (fun b1 hb => H b1 a2 a3 ⟨hb, h2⟩) m m a1 (by omega) (Nat.le_refl m) (fun t ht => by rw [Nat.mod_eq_of_lt ht]; exact h1 t ht)⟩
theorem ft_build2 {post : St2 → Prop} {f0 f1 f2 : Int32} {a1 a2 a3 : Nat → Int32} (H : ∀ b1 b2 b3, ft_T 63 ft_P2 b1 b2 → post (64, 2, 6, b1, b2, b3)) : wpX_build post (f0, f1, f2, a1, a2, a3) 64 2 6 := by
  refine ⟨3, br_f (by decide) (ft_maF (q := 64) (p := 2) (k := 6) (g := 1) (m := 1) (R := ft_R1) (by decide) (by decide) (by decide) (by decide) (by decide) (by decide) (by decide) (by decide) ft_seq21 (by decide +kernel) (fun b1 b2 b3 => br_t rfl (fun x4 e4 x5 e5 => ?_)))⟩
  rw [show x4 = nI 2 from e4.trans (by decide), show x5 = nI 1 from e5.trans (by decide)]
  refine br_f (by decide) (ft_maT (q := 64) (p := 2) (k := 6) (g := 2) (m := 63) (R := ft_P2) (by decide) (by decide) (by decide) (by decide) (by decide) (by decide) (by decide) ft_seq2 (fun c1 c2 c3 h1 h2 => br_f (by decide) ?_))
  exact ft_b54 (p := 2) (k := 6) (m := 63) (by decide) (by decide) h1 h2 H
theorem ft_build3 {post : St2 → Prop} {f0 f1 f2 : Int32} {a1 a2 a3 : Nat → Int32} (H : ∀ b1 b2 b3, ft_T 80 ft_P3 b1 b2 → post (81, 3, 4, b1, b2, b3)) : wpX_build post (f0, f1, f2, a1, a2, a3) 81 3 4 := by
  refine ⟨4, br_f (by decide) (ft_maF (q := 81) (p := 3) (k := 4) (g := 1) (m := 1) (R := ft_R1) (by decide) (by decide) (by decide) (by decide) (by decide) (by decide) (by decide) (by decide) ft_seq31 (by decide +kernel) (fun b1 b2 b3 => br_t rfl (fun x4 e4 x5 e5 => ?_)))⟩
  rw [show x4 = nI 2 from e4.trans (by decide), show x5 = nI 1 from e5.trans (by decide)]
  refine br_f (by decide) (ft_maF (q := 81) (p := 3) (k := 4) (g := 2) (m := 2) (R := ft_R2) (by decide) (by decide) (by decide) (by decide) (by decide) (by decide) (by decide) (by decide) ft_seq32 (by decide +kernel) (fun b1 b2 b3 => br_t rfl (fun x4 e4 x5 e5 => ?_)))
  rw [show x4 = nI 3 from e4.trans (by decide), show x5 = nI 2 from e5.trans (by decide)]
  refine br_f (by decide) (ft_maT (q := 81) (p := 3) (k := 4) (g := 3) (m := 80) (R := ft_P3) (by decide) (by decide) (by decide) (by decide) (by decide) (by decide) (by decide) ft_seq3 (fun c1 c2 c3 h1 h2 => br_f (by decide) ?_))
  exact ft_b54 (p := 3) (k := 4) (m := 80) (by decide) (by decide) h1 h2 H
end
section
/-! ===== the methods that the law calls ===== -/
theorem ft_el {post : Int32 → Prop} {q a : Nat} {p k : Int32} {a1 a2 a3 : Nat → Int32} (ha : a < q) (hq : q ≤ 81) (h : post 1) : wpX_isElement post (nI q, p, k, a1, a2, a3) (nI a) :=
  br_f (nI_pos (by omega)) (br_f (nI_ge ha (by omega)) h)
theorem ft_14 {post : Int32 → Prop} {q : Int32} {p k : Nat} {a1 a2 a3 : Nat → Int32} (hp0 : 0 < p) (hp : p < 100) (hk : k ≤ 6) :
    ∀ (m s w x y i : Nat), i + m = k → x < 2 ^ 31 → y < 2 ^ 31 → post (nI (ft_sm p m s w x y)) → wX_sumOf_14 post q (nI p) (nI k) a1 a2 a3 (m + 1) (nI s) (nI w) (nI x) (nI y) (nI i)
  | 0, s, w, x, y, i, h, hx, hy, H => br_t (nI_le (by omega) (by omega)) H
  | m + 1, s, w, x, y, i, h, hx, hy, H => by
    have hn : ¬ nI p = 0 := nI_ne0 hp0 (by omega)
    refine br_f (nI_ge (by omega) (by omega)) ⟨hn, hn, hn, fun x3 e3 x4 e4 => ⟨hn, fun x5 e5 => ⟨hn, fun x6 e6 x7 e7 => ?_⟩⟩⟩
    have l1 := Nat.mod_lt x hp0
    have l2 := Nat.mod_lt y hp0
    rw [pk_rem hx hp0 (by omega), pk_rem hy hp0 (by omega), nI_add, pk_rem (a := x % p + y % p) (by omega) hp0 (by omega), pk_mul, nI_add] at e3
    rw [pk_mul] at e4
    rw [pk_div hx hp0 (by omega)] at e5
    rw [pk_div hy hp0 (by omega)] at e6
    rw [nI_1] at e7
    subst e3 e4 e5 e6 e7
    exact ft_14 hp0 hp hk m _ _ (x / p) (y / p) (i + 1) (by omega) (ft_dl hx) (ft_dl hy) H
theorem ft_add {post : Int32 → Prop} {q p k a b : Nat} {a1 a2 a3 : Nat → Int32} (hp0 : 0 < p) (hp : p < 100) (hk : k ≤ 6) (hq : q ≤ 81) (ha : a < q) (hb : b < q) (H : post (nI (ft_sm p k 0 1 a b))) : wpX_add post (nI q, nI p, nI k, a1, a2, a3) (nI a) (nI b) := by
  unfold wpX_add
  dsimp only
  refine ft_el ha hq (br_f (by decide) ?_)
  refine ft_el hb hq (br_f (by decide) ?_)
  exact ⟨k + 1, ft_14 hp0 hp hk k 0 1 a b 0 (by omega) (by omega) (by omega) H⟩
theorem ft_mult {post : Int32 → Prop} {q a b : Nat} {p k : Int32} {a1 a2 a3 : Nat → Int32} (hq : q ≤ 81) (ha : a < q) (hb : b < q) (Hz : a = 0 ∨ b = 0 → post 0) (Hn : a ≠ 0 → b ≠ 0 → ∃ x y, a2 a = nI x ∧ a2 b = nI y ∧ x + y < 160 ∧ post (a1 (x + y))) : wpX_multiply post (nI q, p, k, a1, a2, a3) (nI a) (nI b) := by
  unfold wpX_multiply
  dsimp only
  refine ft_el ha hq (br_f (by decide) ?_)
  refine ft_el hb hq (br_f (by decide) ?_)
  unfold wpX_productOf
  dsimp only
  refine pk_eq a 0 (fun z => Hz (Or.inl z)) (fun za => pk_eq b 0 (fun z => Hz (Or.inr z)) (fun zb => ?_))
  obtain ⟨x, y, e1, e2, h, hp⟩ := Hn za zb
  rw [nI_clamp (show a < 2 ^ 31 by omega), nI_clamp (show b < 2 ^ 31 by omega), e1, e2, nI_add, nI_clamp (show x + y < 2 ^ 31 by omega)]
  exact ⟨vp_in_nI (by omega) (by omega), vp_in_nI (by omega) (by omega), vp_in_nI h (by omega), hp⟩
theorem ft_mulT {post : Int32 → Prop} {M a g : Nat} {R E : Nat → Nat} {p k : Int32} {a1 a2 a3 : Nat → Int32} (hT : ft_T M R a1 a2) (hM1 : 1 < M) (hM : M ≤ 80) (hR1 : R 1 = g) (hg0 : g ≠ 0) (hg : g < M + 1) (ha : a < M + 1) (hE : a ≠ 0 → E a < M ∧ R (E a) = a) (H : post (nI (if a = 0 then 0 else R ((E a + 1) % M)))) :
    wpX_multiply post (nI (M + 1), p, k, a1, a2, a3) (nI a) (nI g) ∧ wpX_multiply post (nI (M + 1), p, k, a1, a2, a3) (nI g) (nI a) := by
  have eg : a2 g = nI 1 := by
    rw [← hR1]
    exact hT.2 1 hM1
  by_cases z : a = 0
  · rw [if_pos z] at H
    exact ⟨ft_mult (by omega) ha hg (fun _ => H) (fun n => absurd z n), ft_mult (by omega) hg ha (fun _ => H) (fun _ n => absurd z n)⟩
  · rw [if_neg z] at H
    obtain ⟨h1, h2⟩ := hE z
    have ea : a2 a = nI (E a) := by
      have t := hT.2 (E a) h1
      rwa [h2] at t
    refine ⟨ft_mult (by omega) ha hg (fun o => absurd o (by omega)) (fun _ _ => ⟨E a, 1, ea, eg, by omega, ?_⟩), ft_mult (by omega) hg ha (fun o => absurd o (by omega)) (fun _ _ => ⟨1, E a, eg, ea, by omega, ?_⟩)⟩
    · rw [hT.1 (E a + 1) (by omega)]
      exact H
    · rw [Nat.add_comm 1 (E a), hT.1 (E a + 1) (by omega)]
      exact H
theorem ft_mulA {post : Int32 → Prop} {M a g : Nat} {R E : Nat → Nat} {p k : Int32} {a1 a2 a3 : Nat → Int32} (hT : ft_T M R a1 a2) (hM1 : 1 < M) (hM : M ≤ 80) (hR1 : R 1 = g) (hg0 : g ≠ 0) (hg : g < M + 1) (ha : a < M + 1) (hE : a ≠ 0 → E a < M ∧ R (E a) = a) (H : post (nI (if a = 0 then 0 else R ((E a + 1) % M)))) :
    wpX_multiply post (nI (M + 1), p, k, a1, a2, a3) (nI a) (nI g) := (ft_mulT hT hM1 hM hR1 hg0 hg ha hE H).1
theorem ft_mulB {post : Int32 → Prop} {M a g : Nat} {R E : Nat → Nat} {p k : Int32} {a1 a2 a3 : Nat → Int32} (hT : ft_T M R a1 a2) (hM1 : 1 < M) (hM : M ≤ 80) (hR1 : R 1 = g) (hg0 : g ≠ 0) (hg : g < M + 1) (ha : a < M + 1) (hE : a ≠ 0 → E a < M ∧ R (E a) = a) (H : post (nI (if a = 0 then 0 else R ((E a + 1) % M)))) :
    wpX_multiply post (nI (M + 1), p, k, a1, a2, a3) (nI g) (nI a) := (ft_mulT hT hM1 hM hR1 hg0 hg ha hE H).2
theorem ft_power {post : Int32 → Prop} {q g m : Nat} {p k : Int32} {a1 a2 a3 : Nat → Int32} (hq2 : 2 ≤ q) (hq : q ≤ 81) (hg0 : g ≠ 0) (hg : g < q) (hm : m ≤ 1000) (e : a2 g = nI 1) (h0 : m = 0 → post 1) (hn : post (a1 (m % (q - 1)))) : wpX_power post (nI q, p, k, a1, a2, a3) (nI g) (nI m) := by
  unfold wpX_power
  dsimp only
  refine ft_el hg hq (br_f (by decide) (br_f (nI_pos (by omega)) (br_f (show ¬ nI 1000000 < nI m from nI_nlt (by omega) (by omega)) ?_)))
  unfold wpX_powerOf
  dsimp only
  refine pk_eq m 0 h0 (fun zm => br_f (nI_ne0 (by omega) (by omega)) ?_)
  have l := Nat.mod_lt m (show 0 < q - 1 by omega)
  rw [nI_clamp (show g < 2 ^ 31 by omega), e, ft_s1 (by omega), nI_l (n := 1) (by omega), nI_l (n := m) (by omega), nI_l (n := q - 1) (by omega), lN_mul, Nat.one_mul, pk_lRem (by omega) (by omega) (by omega), lN_i, nI_clamp (by omega)]
  exact ⟨vp_in_nI (by omega) (by omega), (fun z => absurd ((lN_eq (b := 0) (by omega) (by omega)).mp z) (by omega)), vp_in_nI (by omega) (by omega), hn⟩
theorem ft_powT {post : Int32 → Prop} {M g m : Nat} {R : Nat → Nat} {p k : Int32} {a1 a2 a3 : Nat → Int32} (hT : ft_T M R a1 a2) (hM1 : 1 < M) (hM : M ≤ 80) (hR0 : R 0 = 1) (hR1 : R 1 = g) (hg0 : g ≠ 0) (hg : g < M + 1) (hm : m ≤ 1000) (H : post (nI (R (m % M)))) : wpX_power post (nI (M + 1), p, k, a1, a2, a3) (nI g) (nI m) := by
  have l := Nat.mod_lt m (show 0 < M by omega)
  refine ft_power (by omega) (by omega) hg0 hg hm (by rw [← hR1]; exact hT.2 1 hM1) (fun z => ?_) ?_
  · rw [z, Nat.zero_mod, hR0] at H
    exact H
  · rw [Nat.add_sub_cancel, hT.1 (m % M) (by omega), Nat.mod_mod]
    exact H
/-! ===== the law ===== -/
theorem ft_law2 {post : Int32 → St0 → Prop} {mc ms kc ks : Nat} {x1 x2 x3 : Int32} {a1 a2 a3 : Nat → Int32} (hT : ft_T 63 ft_P2 a1 a2) (H : post 1 ()) : wL_lawOf_57 post mc ms x2 x3 1 64 (x1 &&& 255) kc ks (nI 64) (nI 2) (nI 6) a1 a2 a3 := by
  obtain ⟨ja, hja, eja⟩ := pk_andE x1 (m := 255) 8 (by decide)
  obtain ⟨jb, hjb, ejb⟩ := pk_andE x2 (m := 255) 8 (by decide)
  obtain ⟨m, hm, em⟩ := pk_andE x3 (m := 3) 2 (by decide)
  refine ⟨by decide, fun x6 e6 => br_f (by decide) ⟨by decide, fun x7 e7 x8 e8 => br_f (by decide) ?_⟩⟩
  have e6' : x6 = nI (ja % 64) := by
    rw [e6, eja]
    exact pk_rem (d := 64) (by omega) (by omega) (by omega)
  have e7' : x7 = nI (jb % 64) := by
    rw [e7, ejb]
    exact pk_rem (d := 64) (by omega) (by omega) (by omega)
  have ha : ja % 64 < 64 := Nat.mod_lt _ (by decide)
  have hb : jb % 64 < 64 := Nat.mod_lt _ (by decide)
  clear e6 e7 eja ejb
  generalize ja % 64 = a at *
  generalize jb % 64 = b at *
  subst e6' e7'
  intro x9 e9
  refine br_f (by decide) ?_
  have e9' : nI (if a = 0 then 0 else ft_P2 ((ft_E2 a + 1) % 63)) = x9 := by rw [e9]; exact ft_up2 a ha
  unfold wL_lawOf_225
  refine ft_add (q := 64) (p := 2) (k := 6) (by decide) (by decide) (by decide) (by decide) ha hb (br_t (by rw [e8]; exact ft_sum2 a ha b hb) (br_f (by decide) ?_))
  unfold wL_lawOf_253
  refine ft_mulA (M := 63) (g := 2) (E := ft_E2) hT (by decide) (by decide) (by decide +kernel) (by decide) (by decide) ha (ft_E2_P a ha) (br_t e9' (br_f (by decide) ?_))
  unfold wL_lawOf_273
  refine ft_mulB (M := 63) (g := 2) (E := ft_E2) hT (by decide) (by decide) (by decide +kernel) (by decide) (by decide) ha (ft_E2_P a ha) (br_t e9' (fun x10 e10 => br_f (by decide) ?_))
  rw [em] at e10
  subst e10
  unfold wL_lawOf_302
  refine ft_powT (M := 63) (g := 2) hT (by decide) (by decide) (by decide +kernel) (by decide +kernel) (by decide) (by decide) (by omega) (br_f (by decide) (br_t (ft_pw2 m hm) (br_f (by decide) (br_f (by decide) ?_))))
  unfold wL_lawOf_377
  exact ft_powT (M := 63) (g := 2) (m := 6) hT (by decide) (by decide) (by decide +kernel) (by decide +kernel) (by decide) (by decide) (by decide) (br_f (by decide) (br_t (by decide +kernel) H))
theorem ft_law3 {post : Int32 → St0 → Prop} {mc ms kc ks : Nat} {x1 x2 x3 : Int32} {a1 a2 a3 : Nat → Int32} (hT : ft_T 80 ft_P3 a1 a2) (H : post 1 ()) : wL_lawOf_57 post mc ms x2 x3 0 81 (x1 &&& 255) kc ks (nI 81) (nI 3) (nI 4) a1 a2 a3 := by
  obtain ⟨ja, hja, eja⟩ := pk_andE x1 (m := 255) 8 (by decide)
  obtain ⟨jb, hjb, ejb⟩ := pk_andE x2 (m := 255) 8 (by decide)
  obtain ⟨m, hm, em⟩ := pk_andE x3 (m := 3) 2 (by decide)
  have n3 : ¬ (3 : Int32) = 0 := by decide
  have n9 : ¬ (9 : Int32) = 0 := by decide
  have n27 : ¬ (27 : Int32) = 0 := by decide
  refine ⟨by decide, fun x6 e6 => br_t rfl ⟨by decide, fun x7 e7 x8 e8 => br_t rfl ⟨n3, n3, n3, n3, n3, n3, n3, n3, n9, n3, n9, n3, n3, n27, n27, n3, fun y8 f8 => ?_⟩⟩⟩
  clear e8
  have e6' : x6 = nI (ja % 81) := by
    rw [e6, eja]
    exact pk_rem (d := 81) (by omega) (by omega) (by omega)
  have e7' : x7 = nI (jb % 81) := by
    rw [e7, ejb]
    exact pk_rem (d := 81) (by omega) (by omega) (by omega)
  have ha : ja % 81 < 81 := Nat.mod_lt _ (by decide)
  have hb : jb % 81 < 81 := Nat.mod_lt _ (by decide)
  clear e6 e7 eja ejb
  generalize ja % 81 = a at *
  generalize jb % 81 = b at *
  subst e6' e7'
  intro x9 e9
  refine br_t rfl ⟨n27, n3, n27, n3, n3, n3, n9, n3, fun y9 f9 => ?_⟩
  have e9' : nI (if a = 0 then 0 else ft_P3 ((ft_E3 a + 1) % 80)) = y9 := by rw [f9]; exact ft_up3 a ha
  unfold wL_lawOf_225
  refine ft_add (q := 81) (p := 3) (k := 4) (by decide) (by decide) (by decide) (by decide) ha hb (br_t (by rw [f8]; exact ft_sum3 ha hb) (br_t rfl ?_))
  unfold wL_lawOf_253
  refine ft_mulA (M := 80) (g := 3) (E := ft_E3) hT (by decide) (by decide) (by decide +kernel) (by decide) (by decide) ha (ft_E3_P a ha) (br_t e9' (br_t rfl ?_))
  unfold wL_lawOf_273
  refine ft_mulB (M := 80) (g := 3) (E := ft_E3) hT (by decide) (by decide) (by decide +kernel) (by decide) (by decide) ha (ft_E3_P a ha) (br_t e9' (fun x10 e10 => br_t rfl ?_))
  rw [em] at e10
  subst e10
  have F : wL_lawOf_366 post mc ms 0 3 kc ks (nI 81) (nI 3) (nI 4) a1 a2 a3 := by
    refine br_t rfl ?_
    unfold wL_lawOf_377
    exact ft_powT (M := 80) (g := 3) (m := 4) hT (by decide) (by decide) (by decide +kernel) (by decide +kernel) (by decide) (by decide) (by decide) (br_t rfl (br_t (by decide +kernel) H))
  unfold wL_lawOf_302
  refine ft_powT (M := 80) (g := 3) hT (by decide) (by decide) (by decide +kernel) (by decide +kernel) (by decide) (by decide) (by omega) (br_t rfl ?_)
  have hc : m = 0 ∨ m = 1 ∨ m = 2 ∨ m = 3 := by omega
  rcases hc with h | h | h | h
  · subst h
    exact br_t rfl (br_t (by decide +kernel) (br_t rfl F))
  · subst h
    exact br_f (by decide) (br_t rfl (br_t (by decide +kernel) (br_t rfl F)))
  · subst h
    exact br_f (by decide) (br_f (by decide) (br_t rfl (br_t (by decide +kernel) (br_t rfl F))))
  · subst h
    exact br_f (by decide) (br_f (by decide) (br_f (by decide) (br_t (by decide +kernel) (br_t rfl F))))
theorem ft_use2 {post : Int32 → St2 → Prop} {f0 f1 f2 : Int32} {a1 a2 a3 : Nat → Int32} (H : ∀ b1 b2 b3, ft_T 63 ft_P2 b1 b2 → post 0 (64, 2, 6, b1, b2, b3)) : wpX_use post (f0, f1, f2, a1, a2, a3) 64 := by
  refine br_t rfl (br_t rfl (br_t rfl ?_))
  unfold wX_use_39
  exact ft_build2 H
theorem ft_use3 {post : Int32 → St2 → Prop} {f0 f1 f2 : Int32} {a1 a2 a3 : Nat → Int32} (H : ∀ b1 b2 b3, ft_T 80 ft_P3 b1 b2 → post 0 (81, 3, 4, b1, b2, b3)) : wpX_use post (f0, f1, f2, a1, a2, a3) 81 := by
  refine br_f (by decide) (br_t rfl (br_f (by decide) (br_f (by decide) ?_)))
  unfold wX_use_39
  exact ft_build3 H
theorem ft_lawOf {post : Int32 → St0 → Prop} {x0 x1 x2 x3 : Int32} (H : post 1 ()) : wpL_lawOf post 4 259 () x0 x1 x2 x3 := by
  refine ⟨by decide, by decide, 3, 253, by decide, by decide, by decide, by decide, by decide, by decide, by decide, by decide, ?_⟩
  refine ft_build2 (fun b1 b2 b3 _ => br_c (fun _ => br_f (by decide) ?_) (fun _ => br_t rfl ?_))
  · unfold wL_lawOf_36
    exact ft_use2 (fun c1 c2 c3 hT => br_f (by decide) (ft_law2 hT H))
  · unfold wL_lawOf_36
    exact ft_use3 (fun c1 c2 c3 hT => br_t rfl (ft_law3 hT H))
theorem ft_cell {post : Int32 → Prop} {L i : Nat} {xs : Nat → Int32} (hL : L ≤ 4) (hi : i < 4) (h : ∀ r, post r) : wpL_cellAt post L xs () (nI i) :=
  pk_le L i (fun _ => h 0) (fun z => ⟨pk_in i L z, h _⟩)
end
section
theorem i_vc (xs : Nat → Int32) (L : Nat) (hL : L ≤ 4) : wpL_law (fun r => r = 1) L xs :=
  ft_cell (i := 0) hL (by decide) (fun _ => ft_cell (i := 1) hL (by decide) (fun _ => ft_cell (i := 2) hL (by decide) (fun _ => ft_cell (i := 3) hL (by decide) (fun _ => ⟨4, 259, by decide, by decide, ft_lawOf rfl⟩))))
end
