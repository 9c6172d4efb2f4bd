section
/-! ===== the pure picture: what each method answers, over naturals ===== -/
/-- the digit of row k of a code of n digits -/
def wt_dg (n c k : Nat) : Nat := c / 10 ^ (n - 1 - k) % 10
/-- loops: the first number counts the turns that are left -/
def wt_szL (n c : Nat) : Nat → Nat → Nat → Nat
  | 0, _, v => v
  | r + 1, i, v => wt_szL n c r (i + 1) (v + wt_dg n c i)
def wt_sz (n c : Nat) : Nat := wt_szL n c n 0 0
def wt_diI (n c i : Nat) : Nat → Nat → Nat → Nat → Nat × Nat
  | 0, _, t, b => (t, b)
  | r + 1, j, t, b => wt_diI n c i r (j + 1) (t * (wt_dg n c i - wt_dg n c j + j - i)) (b * (j - i))
def wt_diO (n c : Nat) : Nat → Nat → Nat × Nat → Nat × Nat
  | 0, _, p => p
  | r + 1, i, p => wt_diO n c r (i + 1) (wt_diI n c i (n - (i + 1)) (i + 1) p.1 p.2)
def wt_di (n c : Nat) : Nat × Nat := wt_diO n c n 0 (1, 1)
def wt_dim (n c : Nat) : Nat := (wt_di n c).1 / (wt_di n c).2
def wt_nx (n c i : Nat) : Nat := if n ≤ i + 1 then 0 else wt_dg n c (i + 1)
def wt_stL (n c : Nat) : Nat → Nat → Nat → Nat
  | 0, _, v => v
  | r + 1, i, v => wt_stL n c r (i + 1) (v * (wt_dg n c i - wt_nx n c i + 1))
def wt_st (n c : Nat) : Nat := wt_stL n c n 0 1
def wt_haL (n c col : Nat) : Nat → Nat → Nat → Nat
  | 0, _, v => v
  | r + 1, k, v => wt_haL n c col r (k + 1) (if wt_dg n c k ≤ col then v else v + 1)
def wt_ha (n c row col : Nat) : Nat := wt_dg n c row - col + wt_haL n c col (n - (row + 1)) (row + 1) 0
def wt_hpI (n c row : Nat) : Nat → Nat → Nat → Nat
  | 0, _, v => v
  | r + 1, col, v => wt_hpI n c row r (col + 1) (v * wt_ha n c row col)
def wt_hpO (n c : Nat) : Nat → Nat → Nat → Nat
  | 0, _, v => v
  | r + 1, row, v => wt_hpO n c r (row + 1) (wt_hpI n c row (wt_dg n c row) 0 v)
def wt_hp (n c : Nat) : Nat := wt_hpO n c n 0 1
def wt_fa : Nat → Nat → Nat → Nat
  | 0, _, v => v
  | r + 1, k, v => wt_fa r (k + 1) (v * k)
def wt_or (n c : Nat) : Nat := wt_fa (wt_sz n c - 1) 2 1 / wt_hp n c
def wt_flI (n c col : Nat) : Nat → Nat → Nat
  | 0, h => h
  | r + 1, h => if wt_dg n c h ≤ col then h else wt_flI n c col r (h + 1)
def wt_flO (n c : Nat) : Nat → Nat → Nat → Nat
  | 0, _, v => v
  | r + 1, col, v => wt_flO n c r (col + 1) (10 * v + wt_flI n c col n 0)
def wt_fl (n c : Nat) : Nat := wt_flO n c n 0 0
/-- the law's own: codes below, their sum, the ways -/
def wt_cd (n x y z : Nat) : Nat := if n = 4 then 100 * x + 10 * y + z else 10 * x + y
def wt_loZ (n c x y : Nat) : Nat → Nat → Nat → Nat
  | 0, _, v => v
  | r + 1, z, v => wt_loZ n c x y r (z + 1) (v + (if n = 4 ∨ z = c then wt_dim (n - 1) (wt_cd n x y z) else 0))
def wt_loY (n c d x : Nat) : Nat → Nat → Nat → Nat
  | 0, _, v => v
  | r + 1, y, v => wt_loY n c d x r (y + 1) (wt_loZ n c x y (c + 1 - d) d v)
def wt_lo (n b c d x : Nat) : Nat := wt_loY n c d x (b + 1 - c) c 0
def wt_suL (n b c d : Nat) : Nat → Nat → Nat → Nat
  | 0, _, v => v
  | r + 1, x, v => wt_suL n b c d r (x + 1) (v + wt_lo n b c d x)
def wt_one (n k : Nat) : Nat := 10 ^ (n - k) / 10
def wt_wyL (n s : Nat) : Nat → Nat → Nat → Nat
  | 0, _, v => v
  | r + 1, k, v => wt_wyL n s r (k + 1) (v + (if wt_dg n s k ≤ wt_nx n s k then 0 else wt_or n (s - wt_one n k)))
def wt_d3 (n s : Nat) : Nat := if n = 4 then wt_dg n s 3 else 0
/-! ===== the shapes ===== -/
def wt_T (n : Nat) : List Nat := if n = 2 then [0, 10, 11, 20, 21, 22, 30, 31, 32, 33, 40, 41, 42, 43, 44, 50, 51, 52, 53, 54, 60, 61, 62, 63, 70, 71, 72, 80, 81, 90]
  else if n = 3 then [0, 100, 110, 111, 200, 210, 211, 220, 221, 222, 300, 310, 311, 320, 321, 322, 330, 331, 332, 333, 400, 410, 411, 420, 421, 422, 430, 431, 432, 440, 441, 500, 510, 511, 520, 521, 522, 530, 531, 540, 600, 610, 611, 620, 621, 630, 700, 710, 711, 720, 800, 810, 900]
  else if n = 4 then [0, 1000, 1100, 1110, 1111, 2000, 2100, 2110, 2111, 2200, 2210, 2211, 2220, 2221, 2222, 3000, 3100, 3110, 3111, 3200, 3210, 3211, 3220, 3221, 3222, 3300, 3310, 3311, 3320, 3321, 3330, 4000, 4100, 4110, 4111, 4200, 4210, 4211, 4220, 4221, 4300, 4310, 4311, 4320, 4400, 4410, 5000, 5100, 5110, 5111, 5200, 5210, 5211, 5220, 5300, 5310, 5400, 6000, 6100, 6110, 6111, 6200, 6210, 6300, 7000, 7100, 7110, 7200, 8000, 8100, 9000]
  else []
/-- what the methods need of a shape -/
def wt_g (n c : Nat) : Bool := decide (2 ≤ n ∧ n ≤ 4 ∧ c < 10 ^ n ∧ wt_sz n c ≤ 9 ∧ (∀ j, j < n → ∀ i, i < j → wt_dg n c j ≤ wt_dg n c i)
  ∧ (wt_di n c).1 < 2 ^ 63 ∧ 0 < (wt_di n c).2 ∧ (wt_di n c).2 < 2 ^ 63 ∧ 0 < wt_hp n c ∧ wt_hp n c < 2 ^ 31 ∧ wt_fa (wt_sz n c - 1) 2 1 < 2 ^ 31)
/-- what the law asks of a shape -/
def wt_imp (p q : Bool) : Bool := !p || q
def wt_kz (n s x y : Nat) : Bool := (List.range 10).all (fun z => wt_imp (decide (wt_d3 n s ≤ z ∧ z ≤ wt_dg n s 2)) (decide (wt_cd n x y z ∈ wt_T (n - 1))))
def wt_ky (n s x : Nat) : Bool := (List.range 10).all (fun y => wt_imp (decide (wt_dg n s 2 ≤ y ∧ y ≤ wt_dg n s 1)) (wt_kz n s x y))
def wt_kx (n s : Nat) : Bool := (List.range 10).all (fun x => wt_imp (decide (wt_dg n s 1 ≤ x ∧ x ≤ wt_dg n s 0)) (wt_ky n s x))
def wt_kk (n s : Nat) : Bool := decide (∀ k, k < n → wt_nx n s k < wt_dg n s k → wt_one n k ≤ s ∧ s - wt_one n k ∈ wt_T n)
def wt_ck (n s : Nat) : Bool := decide (
  wt_kx n s = true
  ∧ wt_suL n (wt_dg n s 1) (wt_dg n s 2) (wt_d3 n s) (wt_dg n s 0 + 1 - wt_dg n s 1) (wt_dg n s 1) 0 = wt_dim n s
  ∧ wt_st n s = (wt_dg n s 0 - wt_dg n s 1 + 1) * (wt_dg n s 1 - wt_dg n s 2 + 1) * (wt_dg n s 2 - wt_d3 n s + 1) * (wt_d3 n s + 1)
  ∧ wt_dg n s 1 ≤ wt_dg n s 0 ∧ wt_dg n s 2 ≤ wt_dg n s 1 ∧ wt_d3 n s ≤ wt_dg n s 2
  ∧ wt_kk n s = true
  ∧ wt_wyL n s n 0 (if wt_dg n s 0 + wt_dg n s 1 + wt_dg n s 2 + wt_d3 n s = 0 then 1 else 0) = wt_or n s
  ∧ (wt_dg n s 0 ≤ n → wt_fl n s ∈ wt_T n ∧ wt_or n (wt_fl n s) = wt_or n s ∧ wt_hp n (wt_fl n s) = wt_hp n s))
theorem wt_al {f : Nat → Bool} {p : Prop} [Decidable p] {q : Bool} {i : Nat} (h : (List.range 10).all f = true) (hi : i < 10) (e : f i = wt_imp (decide p) q) (hp : p) : q = true := by
  have h1 := List.all_eq_true.mp h i (List.mem_range.mpr hi)
  rw [e] at h1
  unfold wt_imp at h1
  rw [decide_eq_true hp] at h1
  exact h1
theorem wt_g2 : (wt_T 2).all (wt_g 2) = true := by decide +kernel
theorem wt_g3 : (wt_T 3).all (wt_g 3) = true := by decide +kernel
theorem wt_g4 : (wt_T 4).all (wt_g 4) = true := by decide +kernel
theorem wt_c3 : (wt_T 3).all (wt_ck 3) = true := by decide +kernel
theorem wt_c4 : (wt_T 4).all (wt_ck 4) = true := by decide +kernel
theorem wt_gT {n c : Nat} (h : c ∈ wt_T n) : wt_g n c = true := by
  by_cases h2 : n = 2
  · subst h2; exact List.all_eq_true.mp wt_g2 c h
  · by_cases h3 : n = 3
    · subst h3; exact List.all_eq_true.mp wt_g3 c h
    · by_cases h4 : n = 4
      · subst h4; exact List.all_eq_true.mp wt_g4 c h
      · exfalso
        unfold wt_T at h
        rw [if_neg h2, if_neg h3, if_neg h4] at h
        exact absurd h (List.not_mem_nil)
theorem wt_cT {n c : Nat} (hn : n = 3 ∨ n = 4) (h : c ∈ wt_T n) : wt_ck n c = true := by
  rcases hn with rfl | rfl
  · exact List.all_eq_true.mp wt_c3 c h
  · exact List.all_eq_true.mp wt_c4 c h
theorem wt_gP {n c : Nat} (h : wt_g n c = true) : 2 ≤ n ∧ n ≤ 4 ∧ c < 10 ^ n ∧ wt_sz n c ≤ 9 ∧ (∀ j, j < n → ∀ i, i < j → wt_dg n c j ≤ wt_dg n c i)
  ∧ (wt_di n c).1 < 2 ^ 63 ∧ 0 < (wt_di n c).2 ∧ (wt_di n c).2 < 2 ^ 63 ∧ 0 < wt_hp n c ∧ wt_hp n c < 2 ^ 31 ∧ wt_fa (wt_sz n c - 1) 2 1 < 2 ^ 31 := of_decide_eq_true h
theorem wt_dg9 (n c k : Nat) : wt_dg n c k ≤ 9 := by
  have h : wt_dg n c k < 10 := Nat.mod_lt _ (by decide)
  omega
theorem wt_nx9 (n c k : Nat) : wt_nx n c k ≤ 9 := by
  unfold wt_nx
  split
  · omega
  · exact wt_dg9 _ _ _
theorem wt_p10 {m : Nat} (h : m ≤ 4) : 0 < 10 ^ m ∧ 10 ^ m ≤ 10000 :=
  ⟨Nat.pow_pos (by decide), Nat.pow_le_pow_right (n := 10) (j := 4) (by decide) h⟩
theorem wt_c31 {n c : Nat} (h : wt_g n c = true) : c < 2 ^ 31 := by
  have hp := wt_gP h
  have := (wt_p10 hp.2.1).2
  omega
theorem wt_one0 {n k : Nat} (h : k < n) : wt_one n k = 10 ^ (n - (k + 1)) := by
  unfold wt_one
  rw [show n - k = (n - (k + 1)) + 1 by omega, Nat.pow_succ, Nat.mul_div_cancel _ (by decide)]
theorem wt_one1 {n k : Nat} (h : k < n) : wt_one n k / 10 = wt_one n (k + 1) := by
  rw [wt_one0 h]; rfl
end
section
/-! ===== the methods, one lemma each ===== -/
theorem wt_pow4 {post : Int32 → Prop} {k : Nat} (hk : k < 2 ^ 31) : ∀ r i v, i + r = k → post (nI (v * 10 ^ r)) → wX_power_4 post (nI k) (r + 1) (nI v) (nI i)
  | 0, i, v, h, H => br_t (nI_le (by omega) (by omega)) (by rw [Nat.pow_zero, Nat.mul_one] at H; exact H)
  | r + 1, i, v, h, H => br_f (nI_ge (by omega) hk) (nm_r (pk_mul v 10) (nm_r (nI_1 i) (wt_pow4 hk r (i + 1) (v * 10) (by omega) (by rw [Nat.mul_assoc, Nat.mul_comm 10, ← Nat.pow_succ]; exact H))))
theorem wt_power {post : Int32 → Prop} {k : Nat} (hk : k < 2 ^ 31) (H : post (nI (10 ^ k))) : wpX_power post () (nI k) :=
  ⟨k + 1, wt_pow4 hk k 0 1 (by omega) (by rw [Nat.one_mul]; exact H)⟩
section
variable {post : Int32 → Prop} {n c : Nat} {l1 l2 l3 : Int32} {a1 a2 a3 a4 a5 a6 a7 a8 a9 a10 a11 a12 : Nat → Int32}
theorem wt_digit {k : Nat} (hn : n ≤ 4) (hk : k < n) (hc : c < 2 ^ 31) (H : post (nI (wt_dg n c k))) : wpX_digit post (nI n, l1, l2, l3, a1, a2, a3, a4, a5, a6, a7, a8, a9, a10, a11, a12) (nI c) (nI k) := by
  have e : (nI n - 1) - nI k = nI (n - 1 - k) := by
    rw [show (1 : Int32) = nI 1 from rfl, pk_sub (by omega), pk_sub (by omega)]
  have hp := wt_p10 (show n - 1 - k ≤ 4 by omega)
  unfold wpX_digit
  dsimp only
  rw [e]
  refine wt_power (by omega) ⟨nI_ne0 hp.1 (by omega), by decide, ?_⟩
  have hq : c / 10 ^ (n - 1 - k) < 2 ^ 31 := Nat.lt_of_le_of_lt (Nat.div_le_self _ _) hc
  rw [pk_div hc hp.1 (by omega), show (10 : Int32) = nI 10 from rfl, pk_rem hq (by decide) (by decide)]
  exact H
theorem wt_sizeL (hn : n ≤ 4) (hc : c < 2 ^ 31) : ∀ r i v, i + r = n → post (nI (wt_szL n c r i v)) → wX_sizeOf_4 post (nI c) (nI n) l1 l2 l3 a1 a2 a3 a4 a5 a6 a7 a8 a9 a10 a11 a12 (r + 1) (nI v) (nI i)
  | 0, i, v, h, H => br_t (nI_le (by omega) (by omega)) H
  | r + 1, i, v, h, H => br_f (nI_ge (by omega) (by omega)) (wt_digit hn (by omega) hc (nm_r (nI_add _ _) (nm_r (nI_1 i) (wt_sizeL hn hc r (i + 1) _ (by omega) H))))
theorem wt_size (hn : n ≤ 4) (hc : c < 2 ^ 31) (H : post (nI (wt_sz n c))) : wpX_sizeOf post (nI n, l1, l2, l3, a1, a2, a3, a4, a5, a6, a7, a8, a9, a10, a11, a12) (nI c) :=
  ⟨n + 1, wt_sizeL hn hc n 0 0 (by omega) H⟩
theorem wt_isL (hn : n ≤ 4) (hc : c < 2 ^ 31) (hm : ∀ j, j < n → ∀ i, i < j → wt_dg n c j ≤ wt_dg n c i) (H : post 1) : ∀ r i, i + 1 + r = n → wX_isShape_29 post (nI c) (nI n) l1 l2 l3 a1 a2 a3 a4 a5 a6 a7 a8 a9 a10 a11 a12 (r + 1) (nI (i + 1))
  | 0, i, h => br_t (nI_le (by omega) (by omega)) H
  | r + 1, i, h => by
    refine br_f (nI_ge (by omega) (by omega)) (wt_digit hn (by omega) hc ?_)
    rw [nI_pred]
    have := wt_dg9 n c i
    exact wt_digit hn (by omega) hc (br_t (nI_le (hm (i + 1) (by omega) i (by omega)) (by omega)) (nm_r (nI_1 (i + 1)) (wt_isL hn hc hm H r (i + 1) (by omega))))
theorem wt_isShape (g : wt_g n c = true) (H : post 1) : wpX_isShape post (nI n, l1, l2, l3, a1, a2, a3, a4, a5, a6, a7, a8, a9, a10, a11, a12) (nI c) := by
  have h31 := wt_c31 g
  obtain ⟨h2, h4, hc, hs, hm, _⟩ := wt_gP g
  have hp := (wt_p10 h4).2
  unfold wpX_isShape
  dsimp only
  refine br_f (nI_pos h31) (wt_power (by omega) (br_f (nI_ge hc (by omega)) (wt_size h4 h31 (br_t (nI_le (b := 9) hs (by decide)) ?_))))
  exact ⟨(n - 1) + 1, wt_isL h4 h31 hm H (n - 1) 0 (by omega)⟩
theorem wt_diIw {J : Int64 → Int64 → Int32 → Prop} {i : Nat} (hn : n ≤ 4) (hc : c < 2 ^ 31) (hi : i < n) (hm : ∀ j, j < n → ∀ i, i < j → wt_dg n c j ≤ wt_dg n c i) : ∀ r j t b, i < j → j + r = n → J (lN (wt_diI n c i r j t b).1) (lN (wt_diI n c i r j t b).2) (nI (i + 1)) → wX_dimension_23 post J (nI c) (nI i) (nI n) l1 l2 l3 a1 a2 a3 a4 a5 a6 a7 a8 a9 a10 a11 a12 (r + 1) (lN t) (lN b) (nI j)
  | 0, j, t, b, hj, h, H => br_t (nI_le (by omega) (by omega)) (nm_r (nI_1 i) H)
  | r + 1, j, t, b, hj, h, H => by
    have d1 := wt_dg9 n c i
    have d2 := hm j (by omega) i hj
    refine br_f (nI_ge (by omega) (by omega)) (wt_digit hn hi hc (wt_digit hn (by omega) hc ?_))
    refine nm_r (e' := lN (t * (wt_dg n c i - wt_dg n c j + j - i))) ?_ (nm_r (e' := lN (b * (j - i))) ?_ (nm_r (nI_1 j) (wt_diIw hn hc hi hm r (j + 1) _ _ (by omega) (by omega) H)))
    · rw [pk_sub d2, nI_add, pk_sub (by omega), nI_l (by omega), lN_mul]
    · rw [pk_sub (by omega), nI_l (by omega), lN_mul]
theorem wt_diOw (hn : n ≤ 4) (hc : c < 2 ^ 31) (hm : ∀ j, j < n → ∀ i, i < j → wt_dg n c j ≤ wt_dg n c i) : ∀ r i (p : Nat × Nat), i + r = n → (wt_diO n c r i p).1 < 2 ^ 63 → 0 < (wt_diO n c r i p).2 → (wt_diO n c r i p).2 < 2 ^ 63 → post (nI ((wt_diO n c r i p).1 / (wt_diO n c r i p).2)) → wX_dimension_8 post (nI c) (nI n) l1 l2 l3 a1 a2 a3 a4 a5 a6 a7 a8 a9 a10 a11 a12 (r + 1) (lN p.1) (lN p.2) (nI i)
  | 0, i, p, h, h1, h2, h3, H => by
    have e0 : (0 : Int64) = lN 0 := rfl
    have h1' : p.1 < 2 ^ 63 := h1
    have h2' : 0 < p.2 := h2
    have h3' : p.2 < 2 ^ 63 := h3
    refine br_t (nI_le (by omega) (by omega)) (br_f ?_ ⟨?_, ?_⟩)
    · rw [e0, pk_lLE h3' (by decide)]; omega
    · rw [e0, pk_lEQ h3' (by decide)]; omega
    · rw [pk_lDiv h1' h2' h3', lN_i]; exact H
  | r + 1, i, p, h, h1, h2, h3, H => br_f (nI_ge (by omega) (by omega)) (nm_r (nI_1 i) ⟨(n - (i + 1)) + 1, wt_diIw hn hc (by omega) hm (n - (i + 1)) (i + 1) p.1 p.2 (by omega) (by omega) (wt_diOw hn hc hm r (i + 1) (wt_diI n c i (n - (i + 1)) (i + 1) p.1 p.2) (by omega) h1 h2 h3 H)⟩)
theorem wt_fillings (g : wt_g n c = true) (H : post (nI (wt_dim n c))) : wpX_fillings post (nI n, l1, l2, l3, a1, a2, a3, a4, a5, a6, a7, a8, a9, a10, a11, a12) (nI c) := by
  have h31 := wt_c31 g
  obtain ⟨h2, h4, hc, hs, hm, d1, d2, d3, _⟩ := wt_gP g
  unfold wpX_fillings
  dsimp only
  refine wt_isShape g (br_f (by decide) ?_)
  exact ⟨n + 1, wt_diOw h4 h31 hm n 0 (1, 1) (by omega) d1 d2 d3 H⟩
theorem wt_st44 {J : Int32 → Int32 → Prop} {v i z : Nat} (hn : n ≤ 4) (hc : c < 2 ^ 31) (hi : i < n) (hz : z ≤ wt_dg n c i) (H : J (nI (v * (wt_dg n c i - z + 1))) (nI (i + 1))) : wX_strips_44 post J (nI c) (nI v) (nI i) (nI z) (nI n) l1 l2 l3 a1 a2 a3 a4 a5 a6 a7 a8 a9 a10 a11 a12 := by
  unfold wX_strips_44
  exact wt_digit hn hi hc (nm_r (e' := nI (v * (wt_dg n c i - z + 1))) (by rw [pk_sub hz, nI_1, pk_mul]) (nm_r (nI_1 i) H))
theorem wt_stw (hn : n ≤ 4) (hc : c < 2 ^ 31) (hm : ∀ j, j < n → ∀ i, i < j → wt_dg n c j ≤ wt_dg n c i) : ∀ r i v, i + r = n → post (nI (wt_stL n c r i v)) → wX_strips_14 post (nI c) (nI n) l1 l2 l3 a1 a2 a3 a4 a5 a6 a7 a8 a9 a10 a11 a12 (r + 1) (nI v) (nI i)
  | 0, i, v, h, H => br_t (nI_le (by omega) (by omega)) H
  | r + 1, i, v, h, H => by
    refine br_f (nI_ge (by omega) (by omega)) ?_
    rw [nI_1]
    have H' : post (nI (wt_stL n c r (i + 1) (v * (wt_dg n c i - wt_nx n c i + 1)))) := H
    by_cases hl : n ≤ i + 1
    · have e : wt_nx n c i = 0 := if_pos hl
      rw [e] at H'
      exact br_t (nI_le hl (by omega)) (wt_st44 (z := 0) hn hc (by omega) (by omega) (wt_stw hn hc hm r (i + 1) _ (by omega) H'))
    · have e : wt_nx n c i = wt_dg n c (i + 1) := if_neg hl
      rw [e] at H'
      exact br_f (nI_ge (by omega) (by omega)) (wt_digit hn (by omega) hc (wt_st44 hn hc (by omega) (hm (i + 1) (by omega) i (by omega)) (wt_stw hn hc hm r (i + 1) _ (by omega) H')))
theorem wt_strips (g : wt_g n c = true) (H : post (nI (wt_st n c))) : wpX_strips post (nI n, l1, l2, l3, a1, a2, a3, a4, a5, a6, a7, a8, a9, a10, a11, a12) (nI c) := by
  have h31 := wt_c31 g
  obtain ⟨h2, h4, hc, hs, hm, _⟩ := wt_gP g
  unfold wpX_strips
  dsimp only
  refine wt_isShape g (br_f (by decide) ?_)
  exact ⟨n + 1, wt_stw h4 h31 hm n 0 1 (by omega) H⟩
theorem wt_haw {row col : Nat} (hn : n ≤ 4) (hc : c < 2 ^ 31) (hr : row < n) (hcol : col ≤ wt_dg n c row) : ∀ r k v, k + r = n → post (nI (wt_dg n c row - col + wt_haL n c col r k v)) → wX_hookAt_8 post (nI c) (nI row) (nI col) (nI n) l1 l2 l3 a1 a2 a3 a4 a5 a6 a7 a8 a9 a10 a11 a12 (r + 1) (nI v) (nI k)
  | 0, k, v, h, H => br_t (nI_le (by omega) (by omega)) (wt_digit hn hr hc (by rw [pk_sub hcol, nI_add]; exact H))
  | r + 1, k, v, h, H => by
    have d1 := wt_dg9 n c row
    have d2 := wt_dg9 n c k
    have H' : post (nI (wt_dg n c row - col + wt_haL n c col r (k + 1) (if wt_dg n c k ≤ col then v else v + 1))) := H
    refine br_f (nI_ge (by omega) (by omega)) (wt_digit hn (by omega) hc ?_)
    by_cases hl : wt_dg n c k ≤ col
    · rw [if_pos hl] at H'
      exact br_t (nI_le hl (by omega)) (nm_r (nI_add v 0) (nm_r (nI_1 k) (wt_haw hn hc hr hcol r (k + 1) v (by omega) H')))
    · rw [if_neg hl] at H'
      exact br_f (nI_ge (by omega) (by omega)) (nm_r (nI_1 v) (nm_r (nI_1 k) (wt_haw hn hc hr hcol r (k + 1) (v + 1) (by omega) H')))
theorem wt_hookAt {row col : Nat} (hn : n ≤ 4) (hc : c < 2 ^ 31) (hr : row < n) (hcol : col ≤ wt_dg n c row) (H : post (nI (wt_ha n c row col))) : wpX_hookAt post (nI n, l1, l2, l3, a1, a2, a3, a4, a5, a6, a7, a8, a9, a10, a11, a12) (nI c) (nI row) (nI col) := by
  unfold wpX_hookAt
  dsimp only
  exact nm_r (nI_1 row) ⟨(n - (row + 1)) + 1, wt_haw hn hc hr hcol (n - (row + 1)) (row + 1) 0 (by omega) H⟩
theorem wt_hpIw {J : Int32 → Int32 → Prop} {row : Nat} (hn : n ≤ 4) (hc : c < 2 ^ 31) (hr : row < n) : ∀ r col v, col + r = wt_dg n c row → J (nI (wt_hpI n c row r col v)) (nI (row + 1)) → wX_hookProduct_15 post J (nI c) (nI row) (nI n) l1 l2 l3 a1 a2 a3 a4 a5 a6 a7 a8 a9 a10 a11 a12 (r + 1) (nI v) (nI col)
  | 0, col, v, h, H => by
    have d1 := wt_dg9 n c row
    unfold wX_hookProduct_15
    exact wt_digit hn hr hc (br_t (nI_le (by omega) (by omega)) (nm_r (nI_1 row) H))
  | r + 1, col, v, h, H => by
    have d1 := wt_dg9 n c row
    unfold wX_hookProduct_15
    exact wt_digit hn hr hc (br_f (nI_ge (by omega) (by omega)) (wt_hookAt hn hc hr (by omega) (nm_r (pk_mul _ _) (nm_r (nI_1 col) (wt_hpIw hn hc hr r (col + 1) _ (by omega) H)))))
theorem wt_hpOw (hn : n ≤ 4) (hc : c < 2 ^ 31) : ∀ r row v, row + r = n → post (nI (wt_hpO n c r row v)) → wX_hookProduct_4 post (nI c) (nI n) l1 l2 l3 a1 a2 a3 a4 a5 a6 a7 a8 a9 a10 a11 a12 (r + 1) (nI v) (nI row)
  | 0, row, v, h, H => br_t (nI_le (by omega) (by omega)) H
  | r + 1, row, v, h, H => br_f (nI_ge (by omega) (by omega)) ⟨wt_dg n c row + 1, wt_hpIw hn hc (by omega) (wt_dg n c row) 0 v (by omega) (wt_hpOw hn hc r (row + 1) _ (by omega) H)⟩
theorem wt_hookP (hn : n ≤ 4) (hc : c < 2 ^ 31) (H : post (nI (wt_hp n c))) : wpX_hookProduct post (nI n, l1, l2, l3, a1, a2, a3, a4, a5, a6, a7, a8, a9, a10, a11, a12) (nI c) :=
  ⟨n + 1, wt_hpOw hn hc n 0 1 (by omega) H⟩
theorem wt_hooks (g : wt_g n c = true) (H : post (nI (wt_hp n c))) : wpX_hooks post (nI n, l1, l2, l3, a1, a2, a3, a4, a5, a6, a7, a8, a9, a10, a11, a12) (nI c) := by
  have h31 := wt_c31 g
  have h4 := (wt_gP g).2.1
  unfold wpX_hooks
  dsimp only
  exact wt_isShape g (br_f (by decide) (wt_hookP h4 h31 H))
theorem wt_orw {z : Nat} (hn : n ≤ 4) (hc : c < 2 ^ 31) (hz : z ≤ 9) (h0 : 0 < wt_hp n c) (h1 : wt_hp n c < 2 ^ 31) : ∀ r k v, k ≤ 10 → (z < k ∧ r = 0 ∨ k + r = z + 1) → wt_fa r k v < 2 ^ 31 → post (nI (wt_fa r k v / wt_hp n c)) → wX_orders_21 post (nI c) (nI z) (nI n) l1 l2 l3 a1 a2 a3 a4 a5 a6 a7 a8 a9 a10 a11 a12 (r + 1) (nI v) (nI k)
  | 0, k, v, hk, h, hf, H => by
    refine br_t (nI_lt (by omega) (by omega)) (wt_hookP hn hc (br_f (nI_nle h0 h1) ⟨nI_ne0 h0 h1, ?_⟩))
    have hf' : v < 2 ^ 31 := hf
    rw [pk_div hf' h0 h1]
    exact H
  | r + 1, k, v, hk, h, hf, H => br_f (nI_nlt (by omega) (by omega)) (nm_r (pk_mul v k) (nm_r (nI_1 k) (wt_orw hn hc hz h0 h1 r (k + 1) (v * k) (by omega) (by omega) hf H)))
theorem wt_orders (g : wt_g n c = true) (H : post (nI (wt_or n c))) : wpX_orders post (nI n, l1, l2, l3, a1, a2, a3, a4, a5, a6, a7, a8, a9, a10, a11, a12) (nI c) := by
  have h31 := wt_c31 g
  obtain ⟨h2, h4, hc, hs, hm, d1, d2, d3, p0, p1, hf⟩ := wt_gP g
  unfold wpX_orders
  dsimp only
  refine wt_isShape g (br_f (by decide) (wt_size h4 h31 ?_))
  exact ⟨(wt_sz n c - 1) + 1, wt_orw h4 h31 hs p0 p1 (wt_sz n c - 1) 2 1 (by omega) (by omega) hf H⟩
theorem wt_flIw {J : Int32 → Int32 → Prop} {v col : Nat} (hn : n ≤ 4) (hc : c < 2 ^ 31) (hcol : col < n) : ∀ r h, h + r = n → J (nI (10 * v + wt_flI n c col r h)) (nI (col + 1)) → wX_flip_41 post J (nI c) (nI v) (nI col) (nI n) l1 l2 l3 a1 a2 a3 a4 a5 a6 a7 a8 a9 a10 a11 a12 (r + 1) (nI h)
  | 0, h, e, H => by
    refine br_t (nI_le (by omega) (by omega)) ?_
    unfold wX_flip_67
    exact nm_r (e' := nI (10 * v + h)) (by rw [show (10 : Int32) = nI 10 from rfl, pk_mul, nI_add]) (nm_r (nI_1 col) H)
  | r + 1, h, e, H => by
    have d2 := wt_dg9 n c h
    have H' : J (nI (10 * v + (if wt_dg n c h ≤ col then h else wt_flI n c col r (h + 1)))) (nI (col + 1)) := H
    refine br_f (nI_ge (by omega) (by omega)) (wt_digit hn (by omega) hc ?_)
    by_cases hl : wt_dg n c h ≤ col
    · rw [if_pos hl] at H'
      refine br_t (nI_le hl (by omega)) ?_
      unfold wX_flip_67
      exact nm_r (e' := nI (10 * v + h)) (by rw [show (10 : Int32) = nI 10 from rfl, pk_mul, nI_add]) (nm_r (nI_1 col) H')
    · rw [if_neg hl] at H'
      exact br_f (nI_ge (by omega) (by omega)) (nm_r (nI_1 h) (wt_flIw hn hc hcol r (h + 1) (by omega) H'))
theorem wt_flOw (hn : n ≤ 4) (hc : c < 2 ^ 31) : ∀ r col v, col + r = n → post (nI (wt_flO n c r col v)) → wX_flip_30 post (nI c) (nI n) l1 l2 l3 a1 a2 a3 a4 a5 a6 a7 a8 a9 a10 a11 a12 (r + 1) (nI v) (nI col)
  | 0, col, v, h, H => br_t (nI_le (by omega) (by omega)) H
  | r + 1, col, v, h, H => br_f (nI_ge (by omega) (by omega)) ⟨n + 1, wt_flIw hn hc (by omega) n 0 (by omega) (wt_flOw hn hc r (col + 1) _ (by omega) H)⟩
theorem wt_flip (g : wt_g n c = true) (H1 : wt_dg n c 0 ≤ n → post (nI (wt_fl n c))) (H2 : n < wt_dg n c 0 → post (-2)) : wpX_flip post (nI n, l1, l2, l3, a1, a2, a3, a4, a5, a6, a7, a8, a9, a10, a11, a12) (nI c) := by
  have h31 := wt_c31 g
  obtain ⟨h2, h4, _⟩ := wt_gP g
  have d := wt_dg9 n c 0
  unfold wpX_flip
  dsimp only
  refine wt_isShape g (br_f (by decide) (wt_digit (k := 0) h4 (by omega) h31 ?_))
  refine pk_le (wt_dg n c 0) n (fun h => ?_) (fun h => H2 h)
  exact ⟨n + 1, wt_flOw h4 h31 n 0 0 (by omega) (H1 h)⟩
end
end
section
/-! ===== the law's own small methods ===== -/
def wt_ld (m : Nat) : Nat → Nat → Nat → Nat
  | 0, _, v => v
  | r + 1, i, v => wt_ld m r (i + 1) (if m ≤ i then v else v / 10)
theorem wt_ld4 {m : Nat} (hm : m ≤ 3) (v : Nat) : wt_ld m 4 0 v = v / 10 ^ m := by
  have h : m = 0 ∨ m = 1 ∨ m = 2 ∨ m = 3 := by omega
  rcases h with rfl | rfl | rfl | rfl <;> simp [wt_ld, Nat.div_div_eq_div_mul]
theorem wt_ldw {post : Int32 → Prop} {n k : Nat} (hn : n ≤ 4) (hk : k < n) : ∀ r i v, i + r = 4 → v < 2 ^ 31 → post (nI (wt_ld (n - 1 - k) r i v % 10)) → wL_digit_5 post (nI k) (nI n) (r + 1) (nI v) (nI i)
  | 0, i, v, h, hv, H => by
    refine br_t (nI_le (a := 4) (by omega) (by omega)) ⟨by decide, ?_⟩
    rw [show (10 : Int32) = nI 10 from rfl, pk_rem hv (by decide) (by decide)]
    exact H
  | r + 1, i, v, h, hv, H => by
    have e : (nI n - 1) - nI k = nI (n - 1 - k) := by
      rw [show (1 : Int32) = nI 1 from rfl, pk_sub (by omega), pk_sub (by omega)]
    have H' : post (nI (wt_ld (n - 1 - k) r (i + 1) (if n - 1 - k ≤ i then v else v / 10) % 10)) := H
    refine br_f (nI_ge (b := 4) (by omega) (by decide)) ?_
    rw [e]
    by_cases hl : n - 1 - k ≤ i
    · rw [if_pos hl] at H'
      exact br_t (nI_le hl (by omega)) (nm_r (nI_1 i) (wt_ldw hn hk r (i + 1) v (by omega) hv H'))
    · rw [if_neg hl] at H'
      exact br_f (nI_ge (by omega) (by omega)) ⟨by decide, nm_r (pk_div (d := 10) hv (by decide) (by decide)) (nm_r (nI_1 i) (wt_ldw hn hk r (i + 1) (v / 10) (by omega) (by omega) H'))⟩
theorem wt_Ld {post : Int32 → Prop} {n s k : Nat} (hn : n ≤ 4) (hk : k < n) (hs : s < 2 ^ 31) (H : post (nI (wt_dg n s k))) : wpL_digit post () (nI s) (nI k) (nI n) :=
  ⟨5, wt_ldw hn hk 4 0 s (by omega) hs (by rw [wt_ld4 (by omega)]; exact H)⟩
theorem wt_tens {post : Int32 → Prop} {n : Nat} (hn : n = 3 ∨ n = 4) (H : post (nI (10 ^ n))) : wpL_tens post () (nI n) := by
  rcases hn with rfl | rfl
  · exact br_f (by decide) (br_t (by decide) H)
  · exact br_f (by decide) (br_f (by decide) H)
/-! ===== shape: the answer is in the table ===== -/
def wt_V : Nat → List (Nat × Nat × Nat)
  | 0 => [(9, 9, 0)]
  | k + 1 => (wt_V k).flatMap (fun p => (List.range (min p.1 p.2.1 + 1)).map (fun r => (p.1 - r, r, p.2.2 * 10 + r)))
theorem wt_V3 : (wt_V 3).all (fun p => (wt_T 3).contains p.2.2) = true := by decide +kernel
theorem wt_V4 : (wt_V 4).all (fun p => (wt_T 4).contains p.2.2) = true := by decide +kernel
theorem wt_VT {n l m c : Nat} (hn : n = 3 ∨ n = 4) (h : (l, m, c) ∈ wt_V n) : c ∈ wt_T n := by
  rcases hn with rfl | rfl
  · exact List.contains_iff_mem.mp (List.all_eq_true.mp wt_V3 _ h)
  · exact List.contains_iff_mem.mp (List.all_eq_true.mp wt_V4 _ h)
theorem wt_Vs {k l m c r : Nat} (h : (l, m, c) ∈ wt_V k) (hr : r ≤ min l m) : (l - r, r, c * 10 + r) ∈ wt_V (k + 1) :=
  List.mem_flatMap.mpr ⟨(l, m, c), h, List.mem_map.mpr ⟨r, List.mem_range.mpr (Nat.lt_succ_of_le hr), rfl⟩⟩
theorem wt_s36 {post : Int32 → Prop} {J : Int32 → Int32 → Int32 → Int32 → Prop} {x : Int32} {n l c k z : Nat} (hz : z ≤ 9) (hl : z ≤ l) (H : ∀ r, r ≤ z → J (nI (l - r)) (nI r) (nI (c * 10 + r)) (nI (k + 1))) : wL_shape_36 post J x (nI n) (nI l) (nI c) (nI k) (nI z) := by
  obtain ⟨j, hj, e⟩ := pk_andE (x >>> ((4 * nI k) &&& 31)) (m := 15) 4 (by decide)
  unfold wL_shape_36
  rw [e, nI_1 z, pk_rem (by omega) (by omega) (by omega)]
  have hr : j % (z + 1) ≤ z := Nat.le_of_lt_succ (Nat.mod_lt _ (by omega))
  refine ⟨nI_ne0 (by omega) (by omega), nm_e ?_⟩
  exact nm_r (e' := nI (c * 10 + j % (z + 1))) (by rw [show (10 : Int32) = nI 10 from rfl, pk_mul, nI_add]) (nm_r (pk_sub (Nat.le_trans hr hl)) (nm_r (nI_1 k) (H _ hr)))
theorem wt_s12 {post : Int32 → Prop} {x : Int32} {n : Nat} (hn : n = 3 ∨ n = 4) (H : ∀ c, c ∈ wt_T n → post (nI c)) : ∀ r k l m c, k + r = 4 → l ≤ 9 → m ≤ 9 → (l, m, c) ∈ wt_V (min k n) → wL_shape_12 post x (nI n) (r + 1) (nI l) (nI m) (nI c) (nI k)
  | 0, k, l, m, c, h, hl, hm, hv => by
    rw [show min k n = n by omega] at hv
    exact br_t (nI_le (a := 4) (by omega) (by omega)) (H c (wt_VT hn hv))
  | r + 1, k, l, m, c, h, hl, hm, hv => by
    refine br_f (nI_ge (b := 4) (by omega) (by decide)) ?_
    by_cases hk : n ≤ k
    · refine br_t (nI_le hk (by omega)) (nm_r (nI_1 k) (wt_s12 hn H r (k + 1) l m c (by omega) hl hm ?_))
      rw [show min (k + 1) n = min k n by omega]
      exact hv
    · rw [show min k n = k by omega] at hv
      refine br_f (nI_ge (by omega) (by omega)) ?_
      have hw : ∀ q, q ≤ min l m → wL_shape_12 post x (nI n) (r + 1) (nI (l - q)) (nI q) (nI (c * 10 + q)) (nI (k + 1)) := by
        intro q hq
        refine wt_s12 hn H r (k + 1) (l - q) q (c * 10 + q) (by omega) (by omega) (by omega) ?_
        rw [show min (k + 1) n = k + 1 by omega]
        exact wt_Vs hv hq
      exact pk_le l m (fun z => wt_s36 (by omega) (by omega) (fun q hq => hw q (by omega))) (fun z => wt_s36 (by omega) (by omega) (fun q hq => hw q (by omega)))
theorem wt_shape {post : Int32 → Prop} {x : Int32} {n : Nat} (hn : n = 3 ∨ n = 4) (H : ∀ c, c ∈ wt_T n → post (nI c)) : wpL_shape post () x (nI n) 9 :=
  ⟨5, wt_s12 hn H 4 0 9 9 0 (by omega) (by omega) (by omega) (by rw [Nat.zero_min]; exact List.mem_singleton.mpr rfl)⟩
/-! ===== lower ===== -/
section
variable {post : Int32 → Prop} {n : Nat} {ul1 ul2 ul3 : Int32} {ua1 ua2 ua3 ua4 ua5 ua6 ua7 ua8 ua9 ua10 ua11 ua12 : Nat → Int32}
theorem wt_l53 {J6 J16 : Int32 → Int32 → Prop} {x2 x4 x6 x8 : Int32} {c v z q : Nat} (hn : n ≤ 4) (hc : c ≤ 9) (hz : z ≤ 9) (g : n = 4 ∨ z = c → wt_g (n - 1) q = true) (H : J16 (nI (v + (if n = 4 ∨ z = c then wt_dim (n - 1) q else 0))) (nI (z + 1))) : wL_lower_53 post J6 J16 x2 (nI c) x4 (nI n) x6 (nI v) x8 (nI z) (nI q) (nI (n - 1)) ul1 ul2 ul3 ua1 ua2 ua3 ua4 ua5 ua6 ua7 ua8 ua9 ua10 ua11 ua12 := by
  have one : n = 4 ∨ z = c → wL_lower_67 post J6 J16 x2 (nI c) x4 (nI n) x6 (nI v) x8 (nI z) (nI q) (nI (n - 1)) ul1 ul2 ul3 ua1 ua2 ua3 ua4 ua5 ua6 ua7 ua8 ua9 ua10 ua11 ua12 := by
    intro h
    rw [if_pos h] at H
    unfold wL_lower_67 wL_lower_72
    exact br_f (by decide) (wt_fillings (g h) (nm_r (nI_add _ _) (nm_r (nI_1 z) H)))
  unfold wL_lower_53
  refine pk_eq n 4 (fun h => one (Or.inl h)) (fun h => pk_eq z c (fun h' => one (Or.inr h')) (fun h' => ?_))
  rw [if_neg (fun t => t.elim h h')] at H
  unfold wL_lower_72
  exact br_t rfl (nm_r (nI_add v 0) (nm_r (nI_1 z) H))
theorem wt_l16 {J6 : Int32 → Int32 → Prop} {b c d x y : Nat} (hn : n ≤ 4) (hc : c ≤ 9) (g : ∀ z, d ≤ z → z ≤ c → wt_g (n - 1) (wt_cd n x y z) = true) : ∀ r z v, d ≤ z → z + r = c + 1 → J6 (nI (wt_loZ n c x y r z v)) (nI (y + 1)) → wL_lower_16 post J6 (nI b) (nI c) (nI d) (nI n) (nI x) (nI y) (nI (n - 1)) ul1 ul2 ul3 ua1 ua2 ua3 ua4 ua5 ua6 ua7 ua8 ua9 ua10 ua11 ua12 (r + 1) (nI v) (nI z)
  | 0, z, v, hd, h, H => br_t (nI_lt (by omega) (by omega)) (nm_r (nI_1 y) H)
  | r + 1, z, v, hd, h, H => by
    have ih := wt_l16 (J6 := J6) (b := b) hn hc g r (z + 1) (v + (if n = 4 ∨ z = c then wt_dim (n - 1) (wt_cd n x y z) else 0)) (by omega) (by omega) H
    refine br_f (nI_nlt (by omega) (by omega)) ?_
    have e4 : (100 * nI x + 10 * nI y) + nI z = nI (100 * x + 10 * y + z) := by
      rw [show (100 : Int32) = nI 100 from rfl, show (10 : Int32) = nI 10 from rfl, pk_mul, pk_mul, nI_add, nI_add]
    have e3 : 10 * nI x + nI y = nI (10 * x + y) := by
      rw [show (10 : Int32) = nI 10 from rfl, pk_mul, nI_add]
    rw [e4, e3]
    refine pk_eq n 4 (fun h4 => ?_) (fun h4 => ?_)
    · have eq : wt_cd n x y z = 100 * x + 10 * y + z := if_pos h4
      rw [← eq]
      exact wt_l53 hn hc (by omega) (fun _ => g z hd (by omega)) ih
    · have eq : wt_cd n x y z = 10 * x + y := if_neg h4
      rw [← eq]
      exact wt_l53 hn hc (by omega) (fun _ => g z hd (by omega)) ih
theorem wt_l6 {b c d x : Nat} (hn : n ≤ 4) (hb : b ≤ 9) (hc : c ≤ b) (hd : d ≤ c) (g : ∀ y, c ≤ y → y ≤ b → ∀ z, d ≤ z → z ≤ c → wt_g (n - 1) (wt_cd n x y z) = true) : ∀ r y v, c ≤ y → y + r = b + 1 → post (nI (wt_loY n c d x r y v)) → wL_lower_6 post (nI b) (nI c) (nI d) (nI n) (nI x) (nI (n - 1)) ul1 ul2 ul3 ua1 ua2 ua3 ua4 ua5 ua6 ua7 ua8 ua9 ua10 ua11 ua12 (r + 1) (nI v) (nI y)
  | 0, y, v, hy, h, H => br_t (nI_lt (by omega) (by omega)) H
  | r + 1, y, v, hy, h, H => br_f (nI_nlt (by omega) (by omega)) ⟨(c + 1 - d) + 1, wt_l16 hn (by omega) (g y hy (by omega)) (c + 1 - d) d v (by omega) (by omega) (wt_l6 hn hb hc hd g r (y + 1) _ (by omega) (by omega) H)⟩
theorem wt_lower {x1 : Int32} {b c d x : Nat} (hn : n ≤ 4) (hb : b ≤ 9) (hc : c ≤ b) (hd : d ≤ c) (g : ∀ y, c ≤ y → y ≤ b → ∀ z, d ≤ z → z ≤ c → wt_g (n - 1) (wt_cd n x y z) = true) (H : post (nI (wt_lo n b c d x))) : wpL_lower post (nI (n - 1), ul1, ul2, ul3, ua1, ua2, ua3, ua4, ua5, ua6, ua7, ua8, ua9, ua10, ua11, ua12) x1 (nI b) (nI c) (nI d) (nI n) (nI x) :=
  ⟨(b + 1 - c) + 1, wt_l6 hn hb hc hd g (b + 1 - c) c 0 (by omega) (by omega) H⟩
end
end
section
/-! ===== one turn of the law ===== -/
theorem wt_ckP {n s : Nat} (h : wt_ck n s = true) :
  (∀ x, x < 10 → wt_dg n s 1 ≤ x → x ≤ wt_dg n s 0 → ∀ y, y < 10 → wt_dg n s 2 ≤ y → y ≤ wt_dg n s 1 → ∀ z, z < 10 → wt_d3 n s ≤ z → z ≤ wt_dg n s 2 → wt_cd n x y z ∈ wt_T (n - 1))
  ∧ wt_suL n (wt_dg n s 1) (wt_dg n s 2) (wt_d3 n s) (wt_dg n s 0 + 1 - wt_dg n s 1) (wt_dg n s 1) 0 = wt_dim n s
  ∧ wt_st n s = (wt_dg n s 0 - wt_dg n s 1 + 1) * (wt_dg n s 1 - wt_dg n s 2 + 1) * (wt_dg n s 2 - wt_d3 n s + 1) * (wt_d3 n s + 1)
  ∧ wt_dg n s 1 ≤ wt_dg n s 0 ∧ wt_dg n s 2 ≤ wt_dg n s 1 ∧ wt_d3 n s ≤ wt_dg n s 2
  ∧ (∀ k, k < n → wt_nx n s k < wt_dg n s k → wt_one n k ≤ s ∧ s - wt_one n k ∈ wt_T n)
  ∧ wt_wyL n s n 0 (if wt_dg n s 0 + wt_dg n s 1 + wt_dg n s 2 + wt_d3 n s = 0 then 1 else 0) = wt_or n s
  ∧ (wt_dg n s 0 ≤ n → wt_fl n s ∈ wt_T n ∧ wt_or n (wt_fl n s) = wt_or n s ∧ wt_hp n (wt_fl n s) = wt_hp n s) := by
  obtain ⟨k0, c1, c2, m1, m2, m3, k1, c3, c4⟩ := of_decide_eq_true h
  refine ⟨fun x x1 x2 x3 y y1 y2 y3 z z1 z2 z3 => ?_, c1, c2, m1, m2, m3, of_decide_eq_true k1, c3, c4⟩
  have p1 := wt_al k0 x1 rfl ⟨x2, x3⟩
  have p2 := wt_al p1 y1 rfl ⟨y2, y3⟩
  exact of_decide_eq_true (wt_al p2 z1 rfl ⟨z2, z3⟩)
theorem wt_ne2 {f : Nat} (h : f < 2 ^ 31) : ¬ nI f = -2 := by
  intro z
  have p := nI_pos h
  rw [z] at p
  exact p (by decide)
section
variable {post : Int32 → Prop} {L : Nat} {xs : Nat → Int32} {J33 : Int32 → Prop} {x4 : Int32} {n s kc ks : Nat} {ol1 ol2 ol3 : Int32} {oa1 oa2 oa3 oa4 oa5 oa6 oa7 oa8 oa9 oa10 oa11 oa12 : Nat → Int32} {ul1 ul2 ul3 : Int32} {ua1 ua2 ua3 ua4 ua5 ua6 ua7 ua8 ua9 ua10 ua11 ua12 : Nat → Int32}
theorem wt_368a {a w w' f : Nat} (hn : n ≤ 4) (g : wt_g n s = true) (gf : wt_g n f = true) (ha : a ≤ n) (hw : w' = w) (hh : wt_hp n f = wt_hp n s) (H : J33 (x4 + 1)) : wL_law_368 post L xs J33 (nI n) x4 (nI s) (nI a) (nI w) (nI f) (nI w') kc ks (nI n) ol1 ol2 ol3 oa1 oa2 oa3 oa4 oa5 oa6 oa7 oa8 oa9 oa10 oa11 oa12 (nI (n - 1)) ul1 ul2 ul3 ua1 ua2 ua3 ua4 ua5 ua6 ua7 ua8 ua9 ua10 ua11 ua12 := by
  unfold wL_law_368
  refine wt_hooks g (br_t (nI_pos' (wt_c31 gf)) (wt_hooks gf ?_))
  unfold wL_law_394
  refine br_t (congrArg nI hw) (br_t (congrArg nI hh) (br_f (wt_ne2 (wt_c31 gf)) ?_))
  unfold wL_law_422
  refine br_t (nI_le ha (by omega)) ?_
  unfold wL_law_433
  exact br_t rfl (nm_e H)
theorem wt_368b {a w : Nat} (g : wt_g n s = true) (ha : n < a) (ha9 : a ≤ 9) (H : J33 (x4 + 1)) : wL_law_368 post L xs J33 (nI n) x4 (nI s) (nI a) (nI w) (-2) (nI w) kc ks (nI n) ol1 ol2 ol3 oa1 oa2 oa3 oa4 oa5 oa6 oa7 oa8 oa9 oa10 oa11 oa12 (nI (n - 1)) ul1 ul2 ul3 ua1 ua2 ua3 ua4 ua5 ua6 ua7 ua8 ua9 ua10 ua11 ua12 := by
  unfold wL_law_368
  refine wt_hooks g (br_f (by decide) ?_)
  unfold wL_law_394
  refine br_t rfl (br_t rfl (br_t rfl ?_))
  unfold wL_law_422
  refine br_f (nI_ge ha (by omega)) ?_
  unfold wL_law_433
  exact br_t rfl (nm_e H)
theorem wt_305 {J : Int32 → Int32 → Int32 → Prop} {x6 : Int32} {v w k : Nat} (hn : n ≤ 4) (hk : k < n) (H : J (nI (v + w)) (nI (wt_one n (k + 1))) (nI (k + 1))) : wL_law_305 post L xs J33 J (nI n) x4 (nI s) x6 (nI v) (nI (wt_one n k)) (nI k) (nI w) kc ks (nI n) ol1 ol2 ol3 oa1 oa2 oa3 oa4 oa5 oa6 oa7 oa8 oa9 oa10 oa11 oa12 (nI (n - 1)) ul1 ul2 ul3 ua1 ua2 ua3 ua4 ua5 ua6 ua7 ua8 ua9 ua10 ua11 ua12 := by
  have ho : wt_one n k < 2 ^ 31 := by
    rw [wt_one0 hk]
    have := (wt_p10 (show n - (k + 1) ≤ 4 by omega)).2
    omega
  unfold wL_law_305
  refine nm_r (nI_add _ _) ⟨by decide, nm_r (e' := nI (wt_one n (k + 1))) ?_ (nm_r (nI_1 k) H)⟩
  rw [show (10 : Int32) = nI 10 from rfl, pk_div ho (by decide) (by decide), wt_one1 hk]
theorem wt_283 {J : Int32 → Int32 → Int32 → Prop} {x6 : Int32} {v k h e : Nat} (hn : n ≤ 4) (hk : k < n) (hh : h ≤ 9) (he : e ≤ 9) (gs : e < h → wt_one n k ≤ s ∧ wt_g n (s - wt_one n k) = true) (H : J (nI (v + (if h ≤ e then 0 else wt_or n (s - wt_one n k)))) (nI (wt_one n (k + 1))) (nI (k + 1))) : wL_law_283 post L xs J33 J (nI n) x4 (nI s) x6 (nI v) (nI (wt_one n k)) (nI k) (nI h) (nI e) kc ks (nI n) ol1 ol2 ol3 oa1 oa2 oa3 oa4 oa5 oa6 oa7 oa8 oa9 oa10 oa11 oa12 (nI (n - 1)) ul1 ul2 ul3 ua1 ua2 ua3 ua4 ua5 ua6 ua7 ua8 ua9 ua10 ua11 ua12 := by
  unfold wL_law_283
  by_cases z : h ≤ e
  · rw [if_pos z] at H
    exact br_t (nI_le z (by omega)) (wt_305 (w := 0) hn hk H)
  · rw [if_neg z] at H
    have gz := gs (by omega)
    refine br_f (nI_ge (by omega) (by omega)) ?_
    rw [pk_sub gz.1]
    exact wt_orders gz.2 (wt_305 hn hk H)
theorem wt_245 (hs : s ∈ wt_T n) (hck : wt_ck n s = true) (H : J33 (x4 + 1)) : ∀ r k v, k + r = n → wt_wyL n s r k v = wt_or n s → wL_law_245 post L xs J33 (nI n) x4 (nI s) (nI (wt_dg n s 0)) kc ks (nI n) ol1 ol2 ol3 oa1 oa2 oa3 oa4 oa5 oa6 oa7 oa8 oa9 oa10 oa11 oa12 (nI (n - 1)) ul1 ul2 ul3 ua1 ua2 ua3 ua4 ua5 ua6 ua7 ua8 ua9 ua10 ua11 ua12 (r + 1) (nI v) (nI (wt_one n k)) (nI k)
  | 0, k, v, h, hv => by
    have g := wt_gT hs
    have h4 := (wt_gP g).2.1
    obtain ⟨_, _, _, _, _, _, _, _, hf⟩ := wt_ckP hck
    have hv' : v = wt_or n s := hv
    refine br_t (nI_le (by omega) (by omega)) (wt_orders g (br_t (congrArg nI hv'.symm) (wt_flip g (fun ha => ?_) (fun ha => ?_))))
    · obtain ⟨f1, f2, f3⟩ := hf ha
      have gf := wt_gT f1
      exact br_t (nI_pos' (wt_c31 gf)) (wt_orders gf (wt_368a h4 g gf ha f2 f3 H))
    · exact br_f (by decide) (wt_368b g ha (wt_dg9 _ _ _) H)
  | r + 1, k, v, h, hv => by
    have g := wt_gT hs
    have h4 := (wt_gP g).2.1
    have h31 := wt_c31 g
    obtain ⟨_, _, _, _, _, _, hg, _, _⟩ := wt_ckP hck
    have hk : k < n := by omega
    have gs : wt_nx n s k < wt_dg n s k → wt_one n k ≤ s ∧ wt_g n (s - wt_one n k) = true := fun t => ⟨(hg k hk t).1, wt_gT (hg k hk t).2⟩
    have hv' : wt_wyL n s r (k + 1) (v + (if wt_dg n s k ≤ wt_nx n s k then 0 else wt_or n (s - wt_one n k))) = wt_or n s := hv
    have ih := wt_245 hs hck H r (k + 1) _ (by omega) hv'
    have d1 := wt_dg9 n s k
    have d2 := wt_nx9 n s k
    refine br_f (nI_ge (by omega) (by omega)) (wt_Ld h4 hk h31 ?_)
    rw [nI_1]
    have body : wL_law_283 post L xs J33 (wL_law_245 post L xs J33 (nI n) x4 (nI s) (nI (wt_dg n s 0)) kc ks (nI n) ol1 ol2 ol3 oa1 oa2 oa3 oa4 oa5 oa6 oa7 oa8 oa9 oa10 oa11 oa12 (nI (n - 1)) ul1 ul2 ul3 ua1 ua2 ua3 ua4 ua5 ua6 ua7 ua8 ua9 ua10 ua11 ua12 (r + 1)) (nI n) x4 (nI s) (nI (wt_dg n s 0)) (nI v) (nI (wt_one n k)) (nI k) (nI (wt_dg n s k)) (nI (wt_nx n s k)) kc ks (nI n) ol1 ol2 ol3 oa1 oa2 oa3 oa4 oa5 oa6 oa7 oa8 oa9 oa10 oa11 oa12 (nI (n - 1)) ul1 ul2 ul3 ua1 ua2 ua3 ua4 ua5 ua6 ua7 ua8 ua9 ua10 ua11 ua12 := wt_283 h4 hk d1 d2 gs ih
    by_cases hl : n ≤ k + 1
    · have e : wt_nx n s k = 0 := if_pos hl
      rw [e] at body
      exact br_t (nI_le hl (by omega)) body
    · have e : wt_nx n s k = wt_dg n s (k + 1) := if_neg hl
      rw [e] at body
      exact br_f (nI_ge (by omega) (by omega)) (wt_Ld h4 (by omega) h31 body)
theorem wt_231 {v : Nat} (hn : n = 3 ∨ n = 4) (hs : s ∈ wt_T n) (hck : wt_ck n s = true) (hv : wt_wyL n s n 0 v = wt_or n s) (H : J33 (x4 + 1)) : wL_law_231 post L xs J33 (nI n) x4 (nI s) (nI (wt_dg n s 0)) (nI v) kc ks (nI n) ol1 ol2 ol3 oa1 oa2 oa3 oa4 oa5 oa6 oa7 oa8 oa9 oa10 oa11 oa12 (nI (n - 1)) ul1 ul2 ul3 ua1 ua2 ua3 ua4 ua5 ua6 ua7 ua8 ua9 ua10 ua11 ua12 := by
  unfold wL_law_231
  have hp := wt_p10 (show n ≤ 4 by omega)
  refine wt_tens hn ⟨by decide, nm_r (e' := nI (wt_one n 0)) ?_ ⟨n + 1, wt_245 hs hck H n 0 v (by omega) hv⟩⟩
  rw [show (10 : Int32) = nI 10 from rfl, pk_div (by omega) (by decide) (by decide)]
  rfl
theorem wt_111 (hn : n = 3 ∨ n = 4) (hs : s ∈ wt_T n) (hck : wt_ck n s = true) (H : J33 (x4 + 1)) : ∀ r x v, wt_dg n s 1 ≤ x → x + r = wt_dg n s 0 + 1 → wt_suL n (wt_dg n s 1) (wt_dg n s 2) (wt_d3 n s) r x v = wt_dim n s → wL_law_111 post L xs J33 (nI n) x4 (nI s) (nI (wt_dg n s 0)) (nI (wt_dg n s 1)) (nI (wt_dg n s 2)) (nI (wt_d3 n s)) kc ks (nI n) ol1 ol2 ol3 oa1 oa2 oa3 oa4 oa5 oa6 oa7 oa8 oa9 oa10 oa11 oa12 (nI (n - 1)) ul1 ul2 ul3 ua1 ua2 ua3 ua4 ua5 ua6 ua7 ua8 ua9 ua10 ua11 ua12 (r + 1) (nI v) (nI x)
  | 0, x, v, hb, h, hv => by
    have g := wt_gT hs
    obtain ⟨_, _, c2, m1, m2, m3, _, c3, _⟩ := wt_ckP hck
    have d0 := wt_dg9 n s 0
    have hv' : v = wt_dim n s := hv
    refine br_t (nI_lt (by omega) (by omega)) (wt_fillings g (br_t (congrArg nI hv'.symm) (wt_strips g (br_t ?_ (nm_r (e' := nI (wt_dg n s 0 + wt_dg n s 1 + wt_dg n s 2 + wt_d3 n s)) ?_ ?_)))))
    · rw [c2, pk_sub m1, pk_sub m2, pk_sub m3, nI_1, nI_1, nI_1, nI_1, pk_mul, pk_mul, pk_mul]
    · rw [nI_add, nI_add, nI_add]
    · refine pk_eq (wt_dg n s 0 + wt_dg n s 1 + wt_dg n s 2 + wt_d3 n s) 0 (fun z => ?_) (fun z => ?_)
      · rw [if_pos z] at c3
        exact wt_231 (v := 1) hn hs hck c3 H
      · rw [if_neg z] at c3
        exact wt_231 (v := 0) hn hs hck c3 H
  | r + 1, x, v, hb, h, hv => by
    obtain ⟨c0, _, _, m1, m2, m3, _, _, _⟩ := wt_ckP hck
    have d0 := wt_dg9 n s 0
    have hv' : wt_suL n (wt_dg n s 1) (wt_dg n s 2) (wt_d3 n s) r (x + 1) (v + wt_lo n (wt_dg n s 1) (wt_dg n s 2) (wt_d3 n s) x) = wt_dim n s := hv
    have ih := wt_111 hn hs hck H r (x + 1) _ (by omega) (by omega) hv'
    refine br_f (nI_nlt (by omega) (by omega)) (wt_lower (by omega) (by omega) m2 m3 (fun y hy1 hy2 z hz1 hz2 => wt_gT (c0 x (by omega) hb (by omega) y (by omega) hy1 hy2 z (by omega) hz1 hz2)) ?_)
    exact nm_r (nI_add _ _) (nm_r (nI_1 x) ih)
end
section
variable {L : Nat} {xs : Nat → Int32} {n kc ks : Nat} {ol1 ol2 ol3 : Int32} {oa1 oa2 oa3 oa4 oa5 oa6 oa7 oa8 oa9 oa10 oa11 oa12 : Nat → Int32} {ul1 ul2 ul3 : Int32} {ua1 ua2 ua3 ua4 ua5 ua6 ua7 ua8 ua9 ua10 ua11 ua12 : Nat → Int32}
theorem wt_33 (hL : L ≤ 260) (hn : n = 3 ∨ n = 4) : ∀ r i, i ≤ 260 → L ≤ i + r → wL_law_33 (fun r => r = 1) L xs (nI n) kc ks (nI n) ol1 ol2 ol3 oa1 oa2 oa3 oa4 oa5 oa6 oa7 oa8 oa9 oa10 oa11 oa12 (nI (n - 1)) ul1 ul2 ul3 ua1 ua2 ua3 ua4 ua5 ua6 ua7 ua8 ua9 ua10 ua11 ua12 (r + 1) (nI i)
  | 0, i, hi, h => br_t (show nI L ≤ nI i from nI_le (by omega) (by omega)) rfl
  | r + 1, i, hi, h => by
    by_cases hl : L ≤ i
    · exact br_t (show nI L ≤ nI i from nI_le hl (by omega)) rfl
    · refine br_f (show ¬ nI L ≤ nI i from nI_ge (by omega) (by omega)) (pk_le 30 i (fun _ => rfl) (fun z => ⟨vp_in_nI (by omega) (by omega), wt_shape hn (fun s hs => ?_)⟩))
      have ih := wt_33 hL hn r (i + 1) (by omega) (by omega)
      rw [← nI_1 i] at ih
      have h31 := wt_c31 (wt_gT hs)
      have hck := wt_cT hn hs
      obtain ⟨_, c1, _, m1, _, _, _, _, _⟩ := wt_ckP hck
      refine wt_Ld (k := 0) (by omega) (by omega) h31 (wt_Ld (k := 1) (by omega) (by omega) h31 (wt_Ld (k := 2) (by omega) (by omega) h31 ?_))
      have fin : wL_law_111 (fun r => r = 1) L xs (wL_law_33 (fun r => r = 1) L xs (nI n) kc ks (nI n) ol1 ol2 ol3 oa1 oa2 oa3 oa4 oa5 oa6 oa7 oa8 oa9 oa10 oa11 oa12 (nI (n - 1)) ul1 ul2 ul3 ua1 ua2 ua3 ua4 ua5 ua6 ua7 ua8 ua9 ua10 ua11 ua12 (r + 1)) (nI n) (nI i) (nI s) (nI (wt_dg n s 0)) (nI (wt_dg n s 1)) (nI (wt_dg n s 2)) (nI (wt_d3 n s)) kc ks (nI n) ol1 ol2 ol3 oa1 oa2 oa3 oa4 oa5 oa6 oa7 oa8 oa9 oa10 oa11 oa12 (nI (n - 1)) ul1 ul2 ul3 ua1 ua2 ua3 ua4 ua5 ua6 ua7 ua8 ua9 ua10 ua11 ua12 (wt_dg n s 0 + 1 - wt_dg n s 1 + 1) (nI 0) (nI (wt_dg n s 1)) := wt_111 hn hs hck ih (wt_dg n s 0 + 1 - wt_dg n s 1) (wt_dg n s 1) 0 (by omega) (by omega) c1
      rcases hn with h3 | h4
      · have e : wt_d3 n s = 0 := if_neg (by omega)
        rw [e] at fin
        exact br_f (by rw [h3]; decide) ⟨_, fin⟩
      · have e : wt_d3 n s = wt_dg n s 3 := if_pos h4
        rw [e] at fin
        exact br_t (by rw [h4]; decide) (wt_Ld (k := 3) (by omega) (by omega) h31 ⟨_, fin⟩)
end
theorem wt_init {post : St2 → Prop} {n : Nat} (h2 : 2 ≤ n) (h4 : n ≤ 4) (H : post (nI n, 0, 0, 0, fun _ => 0, fun _ => 0, fun _ => 0, fun _ => 0, fun _ => 0, fun _ => 0, fun _ => 0, fun _ => 0, fun _ => 0, fun _ => 0, fun _ => 0, fun _ => 0)) : wpX_init post 12 2967 (0, 0, 0, 0) (nI n) := by
  refine ⟨by decide, by decide, by decide, by decide, by decide, by decide, by decide, by decide, by decide, by decide, by decide, by decide, by decide, by decide, by decide, by decide, by decide, by decide, by decide, by decide, by decide, by decide, by decide, by decide, br_t (nI_le (a := 2) h2 (by omega)) ?_⟩
  unfold wX_init_111
  exact br_t (nI_le (b := 4) h4 (by decide)) H
theorem wt_cell {post : Int32 → Prop} {xs : Nat → Int32} {L : Nat} (hL : L ≤ 260) (H : ∀ x, post x) : wpL_cell post L xs () 0 :=
  br_c (fun _ => H 0) (fun z => ⟨vp_in_nI (n := 0) (Nat.pos_of_ne_zero (fun e => z (by rw [e]; decide))) (by omega), H _⟩)
theorem i_vc (xs : Nat → Int32) (L : Nat) (hL : L ≤ 260) : wpL_law (fun r => r = 1) L xs := by
  unfold wpL_law
  refine wt_cell hL (fun x x1 e1 => ?_)
  obtain ⟨j, hj, e⟩ := pk_andE x (m := 1) 1 (by decide)
  rw [e, show (3 : Int32) = nI 3 from rfl, nI_add] at e1
  have hn : 3 + j = 3 ∨ 3 + j = 4 := by omega
  have em : x1 - 1 = nI (3 + j - 1) := by
    rw [e1, show (1 : Int32) = nI 1 from rfl, pk_sub (by omega)]
  rw [em, e1]
  refine ⟨12, 2967, by decide, by decide, wt_init (by omega) (by omega) ⟨by decide, by decide, 12, 2967, by decide, by decide, wt_init (by omega) (by omega) ⟨L + 1, ?_⟩⟩⟩
  exact wt_33 hL hn L 1 (by omega) (by omega)
end
