section
/-- the two given ranges A..B and C..D stand in the registers 0 and 1 -/
def tr_P (A B C D : Nat) (lo hi : Nat → Int32) : Prop := lo 0 = nI A ∧ hi 0 = nI B ∧ lo 1 = nI C ∧ hi 1 = nI D
/-- and register 4 is still as it was made -/
def tr_Q (A B C D : Nat) (lo hi : Nat → Int32) : Prop := tr_P A B C D lo hi ∧ lo 4 = 0 ∧ hi 4 = 127
theorem tr_Pu {A B C D : Nat} {lo hi : Nat → Int32} (h : tr_P A B C D lo hi) (i : Nat) (h2 : 2 ≤ i) (u v : Int32) : tr_P A B C D (upd lo i u) (upd hi i v) := by
  obtain ⟨p1, p2, p3, p4⟩ := h
  exact ⟨by rw [pk_un (by omega)]; exact p1, by rw [pk_un (by omega)]; exact p2, by rw [pk_un (by omega)]; exact p3, by rw [pk_un (by omega)]; exact p4⟩
theorem tr_Qu {A B C D : Nat} {lo hi : Nat → Int32} (h : tr_Q A B C D lo hi) (i : Nat) (h2 : 2 ≤ i) (h4 : i < 4) (u v : Int32) : tr_Q A B C D (upd lo i u) (upd hi i v) :=
  ⟨tr_Pu h.1 i h2 u v, by rw [pk_un (by omega)]; exact h.2.1, by rw [pk_un (by omega)]; exact h.2.2⟩
theorem tr_n0 : (0 : Int32).toNatClampNeg = 0 := pk_cl 0
theorem tr_n1 : (1 : Int32).toNatClampNeg = 1 := pk_cl 1
/-! numbers -/
theorem tr_add127 {a c : Nat} (h : a + c < 2 ^ 31) : (nI a + nI c) &&& 127 = nI ((a + c) % 128) := by
  rw [nI_add]
  exact pk_andN (by omega) 7 (by decide)
theorem tr_dbl127 {a : Nat} (h : a ≤ 127) : (2 * nI a) &&& 127 = nI (2 * a % 128) := by
  have e : 2 * nI a = nI (2 * a) := pk_mul 2 a
  rw [e]
  exact pk_andN (by omega) 7 (by decide)
theorem tr_neg127 : ∀ k, k < 128 → (-nI k) &&& 127 = nI ((128 - k) % 128) := by decide +kernel
theorem tr_subneg {a d : Nat} (h : a ≤ d) : nI a - nI d = -nI (d - a) := by
  have e : nI d = nI a + nI (d - a) := by rw [nI_add]; congr 1; omega
  rw [e]
  grind
theorem tr_sub127 {a d : Nat} (ha : a ≤ 127) (hd : d ≤ 127) : (nI a - nI d) &&& 127 = nI ((a + 128 - d) % 128) := by
  rcases Nat.le_total d a with h | h
  · rw [pk_sub h, show (a + 128 - d) % 128 = (a - d) % 2 ^ 7 by omega]
    exact pk_andN (by omega) 7 (by decide)
  · rw [tr_subneg h, tr_neg127 (d - a) (by omega)]
    congr 1
    omega
theorem tr_sub128 {a d : Nat} (hd : d ≤ 127) : nI a - nI d + 128 = nI (a + 128 - d) := by
  have e : nI a - nI d + 128 = (nI a + nI 128) - nI d := by
    show nI a - nI d + nI 128 = (nI a + nI 128) - nI d
    grind
  rw [e, nI_add, pk_sub (by omega)]
theorem tr_sle {a b c d : Nat} (ha : a ≤ 127) (hb : b ≤ 127) (hc : c ≤ 127) (hd : d ≤ 127) : nI a - nI b ≤ nI c - nI d ↔ a + d ≤ c + b := by
  rw [Int32.le_iff_toInt_le, pk_sub_toInt (by omega) (by omega), pk_sub_toInt (by omega) (by omega)]
  omega
theorem tr_sle0 {a b : Nat} (ha : a ≤ 127) (hb : b ≤ 127) : nI a - nI b ≤ 0 ↔ a ≤ b := by
  rw [Int32.le_iff_toInt_le, pk_sub_toInt (by omega) (by omega)]
  show (a : Int) - b ≤ 0 ↔ a ≤ b
  omega
theorem tr_0sle {a b : Nat} (ha : a ≤ 127) (hb : b ≤ 127) : 0 ≤ nI a - nI b ↔ b ≤ a := by
  rw [Int32.le_iff_toInt_le, pk_sub_toInt (by omega) (by omega)]
  show 0 ≤ (a : Int) - b ↔ b ≤ a
  omega
theorem tr_slt0 {a b : Nat} (ha : a ≤ 127) (hb : b ≤ 127) : nI a - nI b < 0 ↔ a < b := by
  rw [Int32.lt_iff_toInt_lt, pk_sub_toInt (by omega) (by omega)]
  show (a : Int) - b < 0 ↔ a < b
  omega
/-! the small methods -/
theorem tr_reg {post : Int32 → Prop} {x : Int32} (i : Nat) (hi : i < 6) (h : post 1) (hx : x = nI i := by rfl) : wpX_isRegister post () x :=
  pk_lt i 0 (fun z => absurd z (by omega)) (fun _ => pk_lt 5 i (fun z => absurd z (by omega)) (fun _ => h) rfl hx) hx
theorem tr_low {post : Int32 → Prop} {nl nh x : Int32} {lo hi : Nat → Int32} (i : Nat) (h6 : i < 6) (v : Int32) (hv : lo i = v) (h : post v) (hx : x = nI i := by rfl) : wpX_low post (nl, nh, lo, hi) x := by
  subst hx hv
  unfold wpX_low
  dsimp only
  rw [nI_clamp (show i < 2 ^ 31 by omega)]
  exact tr_reg i h6 (br_f (by decide) ⟨pk_in i 6 h6, h⟩)
theorem tr_high {post : Int32 → Prop} {nl nh x : Int32} {lo hi : Nat → Int32} (i : Nat) (h6 : i < 6) (v : Int32) (hv : hi i = v) (h : post v) (hx : x = nI i := by rfl) : wpX_high post (nl, nh, lo, hi) x := by
  subst hx hv
  unfold wpX_high
  dsimp only
  rw [nI_clamp (show i < 2 ^ 31 by omega)]
  exact tr_reg i h6 (br_f (by decide) ⟨pk_in i 6 h6, h⟩)
theorem tr_set {post : Int32 → St2 → Prop} {nl nh x y z : Int32} {lo hi : Nat → Int32} (i A B : Nat) (h6 : i < 6) (hAB : A ≤ B) (hB : B ≤ 127) (h : post 0 (nl, nh, upd lo i (nI A), upd hi i (nI B))) (hx : x = nI i := by rfl) (hy : y = nI A := by rfl) (hz : z = nI B := by rfl) : wpX_set post (nl, nh, lo, hi) x y z := by
  subst hx hy hz
  unfold wpX_set
  dsimp only
  rw [nI_clamp (show i < 2 ^ 31 by omega)]
  exact tr_reg i h6 (br_f (by decide) (pk_lt A 0 (fun z => absurd z (by omega)) (fun _ => pk_lt B A (fun z => absurd z (by omega)) (fun _ => pk_le B 127 (fun _ => ⟨pk_in i 6 h6, nm_e ⟨pk_in i 6 h6, nm_e h⟩⟩) (fun z => absurd z (by omega))))))
theorem tr_most {post : Int32 → Prop} {x y : Int32} (a b : Nat) (ha : a ≤ 127) (hb : b ≤ 127) (h : post (nI (max a b))) (hx : x = nI a := by rfl) (hy : y = nI b := by rfl) : wpL_most post () x y := by
  subst hx hy
  unfold wpL_most
  exact pk_le a b (fun g => by rw [Nat.max_eq_right g] at h; exact h) (fun g => by rw [Nat.max_eq_left (by omega)] at h; exact h)
theorem tr_least {post : Int32 → Prop} {x y : Int32} (a b : Nat) (ha : a ≤ 127) (hb : b ≤ 127) (h : post (nI (min a b))) (hx : x = nI a := by rfl) (hy : y = nI b := by rfl) : wpL_least post () x y := by
  subst hx hy
  unfold wpL_least
  exact pk_le b a (fun g => by rw [Nat.min_eq_right g] at h; exact h) (fun g => by rw [Nat.min_eq_left (by omega)] at h; exact h)
theorem tr_greater {post : Int32 → Prop} {x y : Int32} (a b : Nat) (ha : a ≤ 127) (hb : b ≤ 127) (h : post (nI (max a b))) (hx : x = nI a := by rfl) (hy : y = nI b := by rfl) : wpX_greater post () x y := by
  subst hx hy
  unfold wpX_greater
  exact pk_le a b (fun g => by rw [Nat.max_eq_right g] at h; exact h) (fun g => by rw [Nat.max_eq_left (by omega)] at h; exact h)
theorem tr_lesser {post : Int32 → Prop} {x y : Int32} (a b : Nat) (ha : a ≤ 127) (hb : b ≤ 127) (h : post (nI (min a b))) (hx : x = nI a := by rfl) (hy : y = nI b := by rfl) : wpX_lesser post () x y := by
  subst hx hy
  unfold wpX_lesser
  exact pk_le b a (fun g => by rw [Nat.min_eq_right g] at h; exact h) (fun g => by rw [Nat.min_eq_left (by omega)] at h; exact h)
theorem tr_fill {s : Nat → Int32} {i k : Nat} (hk : k = i) (h : ∀ j, j < i → s j = 127) : ∀ j, j < i + 1 → upd s k 127 j = 127 := by
  intro j hj
  rw [hk]
  by_cases e : j = i
  · rw [e, pk_us]
  · rw [pk_un e]
    exact h j (by omega)
theorem tr_init {post : St2 → Prop} {mc ms : Nat} (hm : 2 ≤ mc) (hs : 12 ≤ ms) (h : ∀ hi : Nat → Int32, (∀ j, j < 6 → hi j = 127) → post (0, 0, fun _ => 0, hi)) : wpX_init post mc ms (0, 0) := by
  unfold wpX_init
  dsimp only
  refine ⟨by omega, by omega, by omega, by omega, ?_⟩
  exact pk_loop (fun n i s => wX_init_22 post mc ms 2 12 0 0 n (nI i) (fun _ => 0) s) (fun i s => ∀ j, j < i → s j = 127) 6 0 (fun _ => 0) (by omega) (fun j hj => absurd hj (by omega))
    (fun n s hI => pk_le 6 6 (fun _ => h s hI) (fun z => absurd z (by omega)))
    (fun n i s hi hI hw => pk_le 6 i (fun z => absurd z (by omega)) (fun _ => ⟨pk_in i 6 hi, nm_e (nm_r (nI_1 i) (hw _ (tr_fill (nI_clamp (by omega)) hI)))⟩))
/-! the root -/
theorem tr_rt1 {r X : Nat} (hX : X ≤ 127) (h : r + 1 = 12 ∨ X < (r + 1) * (r + 1)) : X < (r + 1) * (r + 1) := by
  rcases h with e | e
  · rw [e]
    omega
  · exact e
theorem tr_rt2 {r k X : Nat} (g : X < k * k) (h : r + 1 = k ∨ X < (r + 1) * (r + 1)) : r + 1 = k + 1 ∨ X < (r + 1) * (r + 1) := by
  rcases h with e | e
  · right
    rw [e]
    exact g
  · exact Or.inr e
theorem tr_sq {k : Nat} (h : k ≤ 12) : k * k ≤ 144 := Nat.mul_le_mul h h
theorem tr_root {post : Int32 → Prop} {x : Int32} (X : Nat) (hX : X ≤ 127) (h : ∀ r : Nat, r ≤ 11 → r * r ≤ X → X < (r + 1) * (r + 1) → post (nI r)) (hx : x = nI X := by rfl) : wpX_rootOf post () x := by
  subst hx
  exact pk_loop (fun n k (r : Nat) => wX_rootOf_4 post (nI X) n (nI r) (nI k)) (fun k r => r < k ∧ r * r ≤ X ∧ (r + 1 = k ∨ X < (r + 1) * (r + 1))) 12 1 0 (by omega) ⟨by omega, by omega, by omega⟩
    (fun n r hr => pk_le 12 12 (fun _ => h r (by have := hr.1; omega) hr.2.1 (tr_rt1 hX hr.2.2)) (fun z => absurd z (by omega)))
    (fun n k r hk hI hw => pk_le 12 k (fun z => absurd z (by omega)) (fun _ => pk_lt X (k * k) (fun g => nm_r (nI_1 k) (hw r ⟨by have := hI.1; omega, hI.2.1, tr_rt2 g hI.2.2⟩)) (fun g => nm_r (nI_1 k) (hw k ⟨by omega, g, Or.inl rfl⟩)) rfl (pk_mul k k) (by omega) (by have := tr_sq (show k ≤ 12 by omega); omega)))
end
section
/-! combine's end -/
theorem tr_130 {post : Int32 → St2 → Prop} {x nl nh : Int32} {lo hi : Nat → Int32} (i : Nat) (h6 : i < 6) (hle : nl ≤ nh) (h : post 0 (nl, nh, upd lo i nl, upd hi i nh)) (hx : x = nI i := by rfl) : wX_combine_130 post x nl nh lo hi := by
  subst hx
  unfold wX_combine_130
  rw [nI_clamp (show i < 2 ^ 31 by omega)]
  exact br_t hle ⟨pk_in i 6 h6, nm_e ⟨pk_in i 6 h6, nm_e h⟩⟩
theorem tr_130f {post : Int32 → St2 → Prop} {x nl nh : Int32} {lo hi : Nat → Int32} (hle : ¬ nl ≤ nh) (h : post (-2) (nl, nh, lo, hi)) : wX_combine_130 post x nl nh lo hi := by
  unfold wX_combine_130
  exact br_f hle h
/-! add, subtract -/
theorem tr_76 {post : St2 → Prop} {nl nh x z : Int32} {lo hi : Nat → Int32} (F T : Nat) (hF : F ≤ T) (hT : T < 256)
    (h : ∀ u v : Int32, u ≤ v → (F < 128 → 128 ≤ T → u = 0 ∧ v = 127) → (128 ≤ F ∨ T < 128 → u = nI (F % 128) ∧ v = nI (T % 128)) → post (u, v, lo, hi))
    (hx : x = nI F) (hz : z = nI T) : wX_addOrSubtract_76 post x z nl nh lo hi := by
  subst hx hz
  unfold wX_addOrSubtract_76 wpX_keep
  refine pk_le 128 T (fun g => pk_lt F 128 (fun g2 => ?_) (fun g2 => ?_)) (fun g => ?_)
  · exact h 0 127 (by decide) (fun _ _ => ⟨rfl, rfl⟩) (fun z => absurd z (by omega))
  · have e1 : nI F - 128 = nI (F % 128) := by
      rw [show F % 128 = F - 128 by omega]
      exact pk_sub g2
    have e2 : nI T - 128 = nI (T % 128) := by
      rw [show T % 128 = T - 128 by omega]
      exact pk_sub g
    exact h (nI F - 128) (nI T - 128) (by rw [e1, e2]; exact nI_le (by omega) (by omega)) (fun z => absurd z (by omega)) (fun _ => ⟨e1, e2⟩)
  · have e1 : nI F = nI (F % 128) := by rw [show F % 128 = F by omega]
    have e2 : nI T = nI (T % 128) := by rw [show T % 128 = T by omega]
    exact h (nI F) (nI T) (nI_le (by omega) (by omega)) (fun _ z => absurd z (by omega)) (fun _ => ⟨e1, e2⟩)
theorem tr_c0 {post : Int32 → St2 → Prop} {nl nh : Int32} {lo hi : Nat → Int32} {A B C D : Nat} (hP : tr_P A B C D lo hi) (hA : A ≤ B) (hB : B ≤ 127) (hC : C ≤ D) (hD : D ≤ 127)
    (h : ∀ u v : Int32, (A + C < 128 → 128 ≤ B + D → u = 0 ∧ v = 127) → (128 ≤ A + C ∨ B + D < 128 → u = nI ((A + C) % 128) ∧ v = nI ((B + D) % 128)) → post 0 (u, v, upd lo 2 u, upd hi 2 v)) :
    wpX_combine post (nl, nh, lo, hi) 2 0 0 1 := by
  obtain ⟨p1, p2, p3, p4⟩ := hP
  unfold wpX_combine
  dsimp only
  refine tr_reg 2 (by omega) (br_f (by decide) (tr_reg 0 (by omega) (br_f (by decide) (tr_reg 1 (by omega) (br_f (by decide) (br_f (by decide) (br_t (by decide) (br_f (by decide) ?_))))))))
  unfold wpX_addOrSubtract
  dsimp only
  rw [tr_n0, tr_n1, p1, p3]
  refine br_t rfl ⟨pk_in 0 6 (by omega), pk_in 1 6 (by omega), ?_⟩
  unfold wX_addOrSubtract_37
  rw [tr_n0, tr_n1, p2, p4]
  refine br_t rfl ⟨pk_in 0 6 (by omega), pk_in 1 6 (by omega), ?_⟩
  exact tr_76 (A + C) (B + D) (by omega) (by omega) (fun u v huv h1 h2 => tr_130 2 (by omega) huv (h u v h1 h2)) (nI_add A C) (nI_add B D)
theorem tr_c1 {post : Int32 → St2 → Prop} {nl nh : Int32} {lo hi : Nat → Int32} {A B C D : Nat} (hP : tr_P A B C D lo hi) (hA : A ≤ B) (hB : B ≤ 127) (hC : C ≤ D) (hD : D ≤ 127)
    (h : ∀ u v : Int32, (A < D → C ≤ B → u = 0 ∧ v = 127) → (D ≤ A ∨ B < C → u = nI ((A + 128 - D) % 128) ∧ v = nI ((B + 128 - C) % 128)) → post 0 (u, v, upd lo 2 u, upd hi 2 v)) :
    wpX_combine post (nl, nh, lo, hi) 2 1 0 1 := by
  obtain ⟨p1, p2, p3, p4⟩ := hP
  unfold wpX_combine
  dsimp only
  refine tr_reg 2 (by omega) (br_f (by decide) (tr_reg 0 (by omega) (br_f (by decide) (tr_reg 1 (by omega) (br_f (by decide) (br_f (by decide) (br_t (by decide) (br_f (by decide) ?_))))))))
  unfold wpX_addOrSubtract
  dsimp only
  rw [tr_n0, tr_n1, p1, p4]
  refine br_f (by decide) ⟨pk_in 0 6 (by omega), pk_in 1 6 (by omega), ?_⟩
  unfold wX_addOrSubtract_37
  rw [tr_n0, tr_n1, p2, p3]
  refine br_f (by decide) ⟨pk_in 0 6 (by omega), pk_in 1 6 (by omega), ?_⟩
  exact tr_76 (A + 128 - D) (B + 128 - C) (by omega) (by omega) (fun u v huv h1 h2 => tr_130 2 (by omega) huv (h u v (fun a b => h1 (by omega) (by omega)) (fun a => h2 (by omega)))) (tr_sub128 hD) (tr_sub128 (by omega))
/-! multiply, divide -/
theorem tr_c5 {post : Int32 → St2 → Prop} {nl nh : Int32} {lo hi : Nat → Int32} {A B C D : Nat} (hP : tr_P A B C D lo hi) (hA : A ≤ B) (hB : B ≤ 127) (hC : C ≤ D) (hD : D ≤ 127)
    (h : post 0 (nI (A * C / 128), nI (B * D / 128), upd lo 3 (nI (A * C / 128)), upd hi 3 (nI (B * D / 128)))) :
    wpX_combine post (nl, nh, lo, hi) 3 5 1 0 := by
  obtain ⟨p1, p2, p3, p4⟩ := hP
  have m1 : A * C ≤ B * D := Nat.mul_le_mul hA hC
  have m2 : B * D ≤ 127 * 127 := Nat.mul_le_mul hB hD
  have e1 : (nI C * nI A) >>> ((7 : Int32) &&& 31) = nI (A * C / 128) := by
    rw [pk_mul, Nat.mul_comm C A]
    exact pk_shrN (by omega) _ 7 (by decide)
  have e2 : (nI D * nI B) >>> ((7 : Int32) &&& 31) = nI (B * D / 128) := by
    rw [pk_mul, Nat.mul_comm D B]
    exact pk_shrN (by omega) _ 7 (by decide)
  unfold wpX_combine
  dsimp only
  refine tr_reg 3 (by omega) (br_f (by decide) (tr_reg 1 (by omega) (br_f (by decide) (tr_reg 0 (by omega) (br_f (by decide) (br_f (by decide) (br_t (by decide) (br_t (by decide) (br_t (by decide) (br_f (by decide) ?_))))))))))
  unfold wpX_multiplyOrDivide wpX_keep
  refine br_t rfl ⟨pk_in 1 6 (by omega), pk_in 0 6 (by omega), pk_in 1 6 (by omega), pk_in 0 6 (by omega), ?_⟩
  rw [tr_n0, tr_n1, p1, p2, p3, p4, e1, e2]
  exact tr_130 3 (by omega) (nI_le (Nat.div_le_div_right m1) (by omega)) h
theorem tr_c6 {post : Int32 → St2 → Prop} {nl nh : Int32} {lo hi : Nat → Int32} {A B C D : Nat} (hP : tr_P A B C D lo hi) (hA : A ≤ B) (hB : B ≤ 127) (hC : C ≤ D) (hD : D ≤ 127)
    (h : ∀ u v : Int32, (D = 0 → u = 127) → (0 < D → u = nI A / nI D) → (C = 0 → v = 127) → (0 < C → v = nI B / nI C) → post 0 (u, v, upd lo 4 u, upd hi 4 v)) :
    wpX_combine post (nl, nh, lo, hi) 4 6 0 1 := by
  obtain ⟨p1, p2, p3, p4⟩ := hP
  unfold wpX_combine
  dsimp only
  refine tr_reg 4 (by omega) (br_f (by decide) (tr_reg 0 (by omega) (br_f (by decide) (tr_reg 1 (by omega) (br_f (by decide) (br_f (by decide) (br_t (by decide) (br_t (by decide) (br_t (by decide) (br_f (by decide) ?_))))))))))
  unfold wpX_multiplyOrDivide wX_multiplyOrDivide_109 wpX_keep
  dsimp only
  rw [tr_n0, tr_n1, p1, p2, p3, p4]
  refine br_f (by decide) ⟨pk_in 1 6 (by omega), pk_eq D 0 (fun g => ?_) (fun g => ⟨pk_in 1 6 (by omega), nm_e ⟨pk_in 1 6 (by omega), nm_e ⟨pk_in 0 6 (by omega), nI_ne0 (by omega) (by omega), pk_le C 0 (fun g2 => ?_) (fun g2 => ⟨pk_in 0 6 (by omega), nI_ne0 (by omega) (by omega), ?_⟩)⟩⟩⟩)⟩
  · exact tr_130 4 (by omega) (by decide) (h 127 127 (fun _ => rfl) (fun z => absurd z (by omega)) (fun _ => rfl) (fun z => absurd z (by omega)))
  · have q : nI A / nI D = nI (A / D) := pk_div (by omega) (by omega) (by omega)
    have q1 : A / D ≤ A := Nat.div_le_self A D
    exact tr_130 4 (by omega) (by rw [q]; exact nI_le (b := 127) (by omega) (by decide)) (h _ 127 (fun z => absurd z g) (fun _ => rfl) (fun _ => rfl) (fun z => absurd z (by omega)))
  · have q : nI A / nI D = nI (A / D) := pk_div (by omega) (by omega) (by omega)
    have q' : nI B / nI C = nI (B / C) := pk_div (by omega) (by omega) (by omega)
    have q1 : A / D ≤ B / C := Nat.div_le_div hA hC (by omega)
    have q2 : B / C ≤ B := Nat.div_le_self B C
    exact tr_130 4 (by omega) (by rw [q, q']; exact nI_le q1 (by omega)) (h _ _ (fun z => absurd z g) (fun _ => rfl) (fun z => absurd z (by omega)) (fun _ => rfl))
/-! the ends -/
theorem tr_c7 {post : Int32 → St2 → Prop} {nl nh : Int32} {lo hi : Nat → Int32} {A B C D : Nat} (hP : tr_P A B C D lo hi) (hA : A ≤ B) (hB : B ≤ 127) (hC : C ≤ D) (hD : D ≤ 127)
    (h : post 0 (nI (max A C), nI (max B D), upd lo 3 (nI (max A C)), upd hi 3 (nI (max B D)))) :
    wpX_combine post (nl, nh, lo, hi) 3 7 0 1 := by
  obtain ⟨p1, p2, p3, p4⟩ := hP
  unfold wpX_combine
  dsimp only
  refine tr_reg 3 (by omega) (br_f (by decide) (tr_reg 0 (by omega) (br_f (by decide) (tr_reg 1 (by omega) (br_f (by decide) (br_f (by decide) (br_t (by decide) (br_t (by decide) (br_t (by decide) (br_t (by decide) (br_f (by decide) ?_)))))))))))
  unfold wpX_compareEnds wpX_keep
  dsimp only
  rw [tr_n0, tr_n1, p1, p2, p3, p4]
  exact br_f (by decide) (br_f (by decide) ⟨pk_in 0 6 (by omega), pk_in 1 6 (by omega), tr_greater A C (by omega) (by omega) ⟨pk_in 0 6 (by omega), pk_in 1 6 (by omega), tr_greater B D hB hD (tr_130 3 (by omega) (nI_le (by omega) (by omega)) h)⟩⟩)
theorem tr_c9 {post : Int32 → St2 → Prop} {nl nh : Int32} {lo hi : Nat → Int32} {A B C D : Nat} (hP : tr_P A B C D lo hi) (hA : A ≤ B) (hB : B ≤ 127) (hC : C ≤ D) (hD : D ≤ 127)
    (h : post 0 (nI (min A C), nI (max B D), upd lo 3 (nI (min A C)), upd hi 3 (nI (max B D)))) :
    wpX_combine post (nl, nh, lo, hi) 3 9 0 1 := by
  obtain ⟨p1, p2, p3, p4⟩ := hP
  unfold wpX_combine
  dsimp only
  refine tr_reg 3 (by omega) (br_f (by decide) (tr_reg 0 (by omega) (br_f (by decide) (tr_reg 1 (by omega) (br_f (by decide) (br_f (by decide) (br_t (by decide) (br_t (by decide) (br_t (by decide) (br_t (by decide) (br_f (by decide) ?_)))))))))))
  unfold wpX_compareEnds wpX_keep
  dsimp only
  rw [tr_n0, tr_n1, p1, p2, p3, p4]
  exact br_t rfl ⟨pk_in 0 6 (by omega), pk_in 1 6 (by omega), tr_lesser A C (by omega) (by omega) ⟨pk_in 0 6 (by omega), pk_in 1 6 (by omega), tr_greater B D hB hD (tr_130 3 (by omega) (nI_le (by omega) (by omega)) h)⟩⟩
theorem tr_c10 {post : Int32 → St2 → Prop} {nl nh : Int32} {lo hi : Nat → Int32} {A B C D : Nat} (hP : tr_P A B C D lo hi) (hA : A ≤ B) (hB : B ≤ 127) (hC : C ≤ D) (hD : D ≤ 127)
    (h1 : max A C ≤ min B D → post 0 (nI (max A C), nI (min B D), upd lo 4 (nI (max A C)), upd hi 4 (nI (min B D))))
    (h2 : min B D < max A C → post (-2) (nI (max A C), nI (min B D), lo, hi)) :
    wpX_combine post (nl, nh, lo, hi) 4 10 0 1 := by
  obtain ⟨p1, p2, p3, p4⟩ := hP
  unfold wpX_combine
  dsimp only
  refine tr_reg 4 (by omega) (br_f (by decide) (tr_reg 0 (by omega) (br_f (by decide) (tr_reg 1 (by omega) (br_f (by decide) (br_f (by decide) (br_t (by decide) (br_t (by decide) (br_t (by decide) (br_t (by decide) (br_f (by decide) ?_)))))))))))
  unfold wpX_compareEnds wpX_keep
  dsimp only
  rw [tr_n0, tr_n1, p1, p2, p3, p4]
  refine br_f (by decide) (br_t rfl ⟨pk_in 0 6 (by omega), pk_in 1 6 (by omega), tr_greater A C (by omega) (by omega) ⟨pk_in 0 6 (by omega), pk_in 1 6 (by omega), tr_lesser B D hB hD ?_⟩⟩)
  rcases Nat.lt_or_ge (min B D) (max A C) with g | g
  · exact tr_130f (nI_ge g (by omega)) (h2 g)
  · exact tr_130 4 (by omega) (nI_le g (by omega)) (h1 g)
theorem tr_gsub {post : Int32 → Prop} {x y : Int32} (a b c d : Nat) (ha : a ≤ 127) (hb : b ≤ 127) (hc : c ≤ 127) (hd : d ≤ 127) (h1 : a + d ≤ c + b → post (nI c - nI d)) (h2 : c + b < a + d → post (nI a - nI b)) (hx : x = nI a - nI b := by rfl) (hy : y = nI c - nI d := by rfl) : wpX_greater post () x y := by
  subst hx hy
  unfold wpX_greater
  exact ek_if (tr_sle ha hb hc hd) h1 (fun g => h2 (by omega))
theorem tr_g0 {post : Int32 → Prop} {x : Int32} (a b : Nat) (ha : a ≤ 127) (hb : b ≤ 127) (h1 : a ≤ b → post 0) (h2 : b < a → post (nI a - nI b)) (hx : x = nI a - nI b := by rfl) : wpX_greater post () x 0 := by
  subst hx
  unfold wpX_greater
  exact ek_if (tr_sle0 ha hb) h1 (fun g => h2 (by omega))
theorem tr_c8 {post : Int32 → St2 → Prop} {nl nh : Int32} {lo hi : Nat → Int32} {A B C D : Nat} (hP : tr_P A B C D lo hi) (hA : A ≤ B) (hB : B ≤ 127) (hC : C ≤ D) (hD : D ≤ 127)
    (h : ∀ u v : Int32, (C ≤ B → A ≤ D → u = 0) → (B < C → u = nI C - nI B) → (D < A → u = nI A - nI D) → (D + C ≤ B + A → v = nI B - nI C) → (B + A < D + C → v = nI D - nI A) → post 0 (u, v, upd lo 4 u, upd hi 4 v)) :
    wpX_combine post (nl, nh, lo, hi) 4 8 1 0 := by
  obtain ⟨p1, p2, p3, p4⟩ := hP
  unfold wpX_combine
  dsimp only
  refine tr_reg 4 (by omega) (br_f (by decide) (tr_reg 1 (by omega) (br_f (by decide) (tr_reg 0 (by omega) (br_f (by decide) (br_f (by decide) (br_t (by decide) (br_t (by decide) (br_t (by decide) (br_t (by decide) (br_t rfl ?_)))))))))))
  unfold wpX_distance wpX_keep
  dsimp only
  rw [tr_n0, tr_n1, p1, p2, p3, p4]
  refine ⟨pk_in 1 6 (by omega), pk_in 0 6 (by omega), pk_in 0 6 (by omega), pk_in 1 6 (by omega), tr_gsub C B A D (by omega) hB (by omega) hD (fun g => ?_) (fun g => ?_)⟩
  · refine ⟨pk_in 1 6 (by omega), pk_in 0 6 (by omega), pk_in 0 6 (by omega), pk_in 1 6 (by omega), tr_gsub D A B C hD (by omega) hB (by omega) (fun k => ?_) (fun k => absurd k (by omega))⟩
    refine tr_g0 A D (by omega) hD (fun q => ?_) (fun q => ?_)
    · exact tr_130 4 (by omega) ((tr_0sle hB (by omega)).mpr (by omega)) (h 0 (nI B - nI C) (fun _ _ => rfl) (fun z => absurd z (by omega)) (fun z => absurd z (by omega)) (fun _ => rfl) (fun z => absurd z (by omega)))
    · exact tr_130 4 (by omega) ((tr_sle (by omega) hD hB (by omega)).mpr (by omega)) (h (nI A - nI D) (nI B - nI C) (fun _ z => absurd z (by omega)) (fun z => absurd z (by omega)) (fun _ => rfl) (fun _ => rfl) (fun z => absurd z (by omega)))
  · refine ⟨pk_in 1 6 (by omega), pk_in 0 6 (by omega), pk_in 0 6 (by omega), pk_in 1 6 (by omega), tr_gsub D A B C hD (by omega) hB (by omega) (fun k => absurd k (by omega)) (fun k => ?_)⟩
    refine tr_g0 C B (by omega) hB (fun q => ?_) (fun q => ?_)
    · exact tr_130 4 (by omega) ((tr_0sle hD (by omega)).mpr (by omega)) (h 0 (nI D - nI A) (fun _ _ => rfl) (fun z => absurd z (by omega)) (fun z => absurd z (by omega)) (fun z => absurd z (by omega)) (fun _ => rfl))
    · exact tr_130 4 (by omega) ((tr_sle (by omega) hB hD (by omega)).mpr (by omega)) (h (nI C - nI B) (nI D - nI A) (fun z _ => absurd z (by omega)) (fun _ => rfl) (fun z => absurd z (by omega)) (fun z => absurd z (by omega)) (fun _ => rfl))
/-! what is refused -/
theorem tr_no6 {post : Int32 → St2 → Prop} {nl nh : Int32} {lo hi : Nat → Int32} (h : post (-1) (nl, nh, lo, hi)) : wpX_combine post (nl, nh, lo, hi) 6 0 0 1 := by
  unfold wpX_combine
  dsimp only
  unfold wpX_isRegister
  exact br_f (by decide) (br_t (by decide) (br_t rfl h))
theorem tr_no11 {post : Int32 → St2 → Prop} {nl nh : Int32} {lo hi : Nat → Int32} (h : post (-1) (nl, nh, lo, hi)) : wpX_combine post (nl, nh, lo, hi) 0 11 0 1 := by
  unfold wpX_combine
  dsimp only
  exact tr_reg 0 (by omega) (br_f (by decide) (tr_reg 0 (by omega) (br_f (by decide) (tr_reg 1 (by omega) (br_f (by decide) (br_f (by decide) (br_f (by decide) h)))))))
theorem tr_no5 {post : Int32 → St2 → Prop} {nl nh : Int32} {lo hi : Nat → Int32} (h : post (-1) (nl, nh, lo, hi)) : wpX_apply post (nl, nh, lo, hi) 0 5 0 := by
  unfold wpX_apply
  dsimp only
  exact tr_reg 0 (by omega) (br_f (by decide) (tr_reg 0 (by omega) (br_f (by decide) (br_f (by decide) (br_f (by decide) h)))))
/-! apply -/
theorem tr_152 {post : Int32 → St2 → Prop} {x nl nh : Int32} {lo hi : Nat → Int32} (i : Nat) (h6 : i < 6) (h : post 0 (nl, nh, upd lo i nl, upd hi i nh)) (hx : x = nI i := by rfl) : wX_apply_152 post x nl nh lo hi := by
  subst hx
  unfold wX_apply_152
  rw [nI_clamp (show i < 2 ^ 31 by omega)]
  exact ⟨pk_in i 6 h6, nm_e ⟨pk_in i 6 h6, nm_e h⟩⟩
theorem tr_a0 {post : Int32 → St2 → Prop} {nl nh : Int32} {lo hi : Nat → Int32} {C D : Nat} (p3 : lo 1 = nI C) (p4 : hi 1 = nI D)
    (h : post 0 (127 - nI D, 127 - nI C, upd lo 5 (127 - nI D), upd hi 5 (127 - nI C))) : wpX_apply post (nl, nh, lo, hi) 5 0 1 := by
  unfold wpX_apply wpX_keep
  dsimp only
  rw [tr_n1, p3, p4]
  exact tr_reg 5 (by omega) (br_f (by decide) (tr_reg 1 (by omega) (br_f (by decide) (br_f (by decide) (br_t (by decide) ⟨pk_in 1 6 (by omega), nm_e ⟨pk_in 1 6 (by omega), nm_e (br_t rfl (tr_152 5 (by omega) h))⟩⟩)))))
theorem tr_a3 {post : Int32 → St2 → Prop} {nl nh : Int32} {lo hi : Nat → Int32} {A B : Nat} (p1 : lo 0 = nI A) (p2 : hi 0 = nI B) (hA : A ≤ 127) (hB : B ≤ 127)
    (h : ∀ r s : Nat, r ≤ 11 → s ≤ 11 → r * r ≤ A → A < (r + 1) * (r + 1) → s * s ≤ B → B < (s + 1) * (s + 1) → post 0 (nI r, nI s, upd lo 5 (nI r), upd hi 5 (nI s))) : wpX_apply post (nl, nh, lo, hi) 5 3 0 := by
  unfold wpX_apply wpX_keep
  dsimp only
  rw [tr_n0, p1, p2]
  exact tr_reg 5 (by omega) (br_f (by decide) (tr_reg 0 (by omega) (br_f (by decide) (br_f (by decide) (br_t (by decide) ⟨pk_in 0 6 (by omega), nm_e ⟨pk_in 0 6 (by omega), nm_e (br_f (by decide) (br_f (by decide) (br_f (by decide) (br_t rfl (tr_root A hA (fun r hr r1 r2 => tr_root B hB (fun s hs s1 s2 => tr_152 5 (by omega) (h r s hr hs r1 r2 s1 s2))))))))⟩⟩)))))
theorem tr_a4 {post : Int32 → St2 → Prop} {nl nh : Int32} {lo hi : Nat → Int32} {A B : Nat} (p1 : lo 0 = nI A) (p2 : hi 0 = nI B) (hA : A ≤ B) (hB : B ≤ 127)
    (h : ∀ u v : Int32, (A < 64 → 64 ≤ B → u = 0 ∧ v = 126) → (64 ≤ A ∨ B < 64 → u = nI (2 * A % 128) ∧ v = nI (2 * B % 128)) → post 0 (u, v, upd lo 5 u, upd hi 5 v)) : wpX_apply post (nl, nh, lo, hi) 5 4 0 := by
  unfold wpX_apply
  dsimp only
  rw [tr_n0, p1, p2]
  refine tr_reg 5 (by omega) (br_f (by decide) (tr_reg 0 (by omega) (br_f (by decide) (br_f (by decide) (br_t (by decide) ⟨pk_in 0 6 (by omega), nm_e ⟨pk_in 0 6 (by omega), nm_e (br_f (by decide) (br_f (by decide) (br_f (by decide) (br_f (by decide) ?_))))⟩⟩)))))
  unfold wpX_doubled wpX_keep
  dsimp only
  have e1 : 2 * nI A = nI (2 * A) := pk_mul 2 A
  have e2 : 2 * nI B = nI (2 * B) := pk_mul 2 B
  rw [e1, e2]
  refine pk_le 64 B (fun g => pk_lt A 64 (fun g2 => ?_) (fun g2 => ?_)) (fun g => ?_)
  · exact tr_152 5 (by omega) (h 0 126 (fun _ _ => ⟨rfl, rfl⟩) (fun z => absurd z (by omega)))
  · have f1 : nI (2 * A) - 128 = nI (2 * A % 128) := by
      rw [show 2 * A % 128 = 2 * A - 128 by omega]
      exact pk_sub (b := 128) (show 128 ≤ 2 * A by omega)
    have f2 : nI (2 * B) - 128 = nI (2 * B % 128) := by
      rw [show 2 * B % 128 = 2 * B - 128 by omega]
      exact pk_sub (b := 128) (show 128 ≤ 2 * B by omega)
    exact tr_152 5 (by omega) (h _ _ (fun z => absurd z (by omega)) (fun _ => ⟨f1, f2⟩))
  · exact tr_152 5 (by omega) (h _ _ (fun _ z => absurd z (by omega)) (fun _ => ⟨by rw [show 2 * A % 128 = 2 * A by omega], by rw [show 2 * B % 128 = 2 * B by omega]⟩))
/-! less -/
theorem tr_less {post : Int32 → Prop} {nl nh x y : Int32} {lo hi : Nat → Int32} (i j A B C D : Nat) (h6 : i < 6) (j6 : j < 6) (hA : A ≤ 127) (hB : B ≤ 127) (hC : C ≤ 127) (hD : D ≤ 127) (p1 : lo i = nI A) (p2 : hi i = nI B) (p3 : lo j = nI C) (p4 : hi j = nI D)
    (h : ∀ r : Int32, (B < C → r = 1) → (C ≤ B → A < D → r = 2) → (C ≤ B → D ≤ A → r = 0) → post r) (hx : x = nI i := by rfl) (hy : y = nI j := by rfl) : wpX_less post (nl, nh, lo, hi) x y := by
  subst hx hy
  unfold wpX_less
  dsimp only
  rw [nI_clamp (show i < 2 ^ 31 by omega), nI_clamp (show j < 2 ^ 31 by omega), p1, p2, p3, p4]
  refine tr_reg i h6 (br_f (by decide) (tr_reg j j6 (br_f (by decide) ⟨pk_in i 6 h6, pk_in j 6 j6, pk_le C B (fun g => ⟨pk_in i 6 h6, pk_in j 6 j6, pk_lt A D (fun k => ?_) (fun k => ?_)⟩) (fun g => ?_)⟩)))
  · exact h 2 (fun z => absurd z (by omega)) (fun _ _ => rfl) (fun _ z => absurd z (by omega))
  · exact h 0 (fun z => absurd z (by omega)) (fun _ z => absurd z (by omega)) (fun _ _ => rfl)
  · exact h 1 (fun _ => rfl) (fun z => absurd z (by omega)) (fun z => absurd z (by omega))
end
section
section
variable {post : Int32 → St0 → Prop} {mc ms kc ks : Nat} {nl nh : Int32} {lo hi : Nat → Int32} {A B C D : Nat}
theorem tr_967 {z0 z1 : Int32} (hp : post 1 ()) (hP : tr_P A B C D lo hi) (hz : z1 = z0) : wL_lawOf_967 post mc ms (nI A) (nI D) z0 z1 kc ks nl nh lo hi := by
  unfold wL_lawOf_967
  refine br_t hz (tr_no6 ?_)
  refine br_t rfl (tr_no11 ?_)
  refine br_t rfl (tr_no5 ?_)
  exact br_t rfl (tr_low 0 (by omega) (nI A) hP.1 (br_t rfl (tr_high 1 (by omega) (nI D) hP.2.2.2 (br_t rfl hp))))
theorem tr_917 {z : Int32} (hp : post 1 ()) (hP : tr_P A B C D lo hi) (h1 : z = 0 → lo 5 = (2 * nI A) &&& 127 ∧ hi 5 = (2 * nI B) &&& 127) (h2 : ¬ z = 0 → lo 5 = 0 ∧ hi 5 = 126) : wL_lawOf_917 post mc ms (nI A) (nI B) (nI D) z kc ks nl nh lo hi := by
  unfold wL_lawOf_917 wL_lawOf_941
  exact tr_low 5 (by omega) _ rfl (br_c
    (fun g => br_t (h1 g).1 (tr_high 5 (by omega) _ rfl (br_t g (tr_967 hp hP (h1 g).2))))
    (fun g => br_t (h2 g).1 (tr_high 5 (by omega) _ rfl (br_f g (tr_967 hp hP (h2 g).2)))))
theorem tr_dbl {u v : Int32} (hp : post 1 ()) (hP : tr_P A B C D lo hi) (hA : A ≤ B) (hB : B ≤ 127) (e1 : lo 5 = u) (e2 : hi 5 = v) (h1 : A < 64 → 64 ≤ B → u = 0 ∧ v = 126) (h2 : 64 ≤ A ∨ B < 64 → u = nI (2 * A % 128) ∧ v = nI (2 * B % 128)) :
    ((64 : Int32) ≤ nI A → wL_lawOf_916 post mc ms (nI A) (nI B) (nI D) kc ks nl nh lo hi) ∧ (¬ (64 : Int32) ≤ nI A → ((nI B < 64 → wL_lawOf_916 post mc ms (nI A) (nI B) (nI D) kc ks nl nh lo hi) ∧ (¬ nI B < 64 → wL_lawOf_917 post mc ms (nI A) (nI B) (nI D) 1 kc ks nl nh lo hi))) := by
  have k : (64 ≤ A ∨ B < 64) → wL_lawOf_916 post mc ms (nI A) (nI B) (nI D) kc ks nl nh lo hi := by
    intro g
    unfold wL_lawOf_916
    exact tr_917 hp hP (fun _ => ⟨by rw [e1, (h2 g).1, tr_dbl127 (by omega)], by rw [e2, (h2 g).2, tr_dbl127 hB]⟩) (fun z => absurd rfl z)
  exact pk_le 64 A (fun g => k (Or.inl g)) (fun g => pk_lt B 64 (fun g2 => k (Or.inr g2)) (fun g2 => tr_917 hp hP (fun z => absurd z (by decide)) (fun _ => ⟨by rw [e1]; exact (h1 g g2).1, by rw [e2]; exact (h1 g g2).2⟩)))
theorem tr_762 {z0 z1 : Int32} (hp : post 1 ()) (hP : tr_P A B C D lo hi) (hA : A ≤ B) (hB : B ≤ 127) (hC : C ≤ D) (hD : D ≤ 127) (hz : z1 = z0) : wL_lawOf_762 post mc ms (nI A) (nI B) (nI C) (nI D) z0 z1 kc ks nl nh lo hi := by
  unfold wL_lawOf_762
  refine br_t hz (tr_a0 hP.2.2.1 hP.2.2.2 ?_)
  refine br_t rfl (tr_low 5 (by omega) _ pk_us (br_t rfl (tr_high 5 (by omega) _ pk_us (br_t rfl ?_))))
  have hP1 := tr_Pu hP 5 (by omega) (127 - nI D) (127 - nI C)
  refine tr_a3 hP1.1 hP1.2.1 (by omega) hB (fun r s hr hs r1 r2 s1 s2 => ?_)
  have hP2 := tr_Pu hP1 5 (by omega) (nI r) (nI s)
  have q1 := tr_sq (show r + 1 ≤ 12 by omega)
  have q2 := tr_sq (show s + 1 ≤ 12 by omega)
  refine br_t rfl (tr_low 5 (by omega) _ pk_us (tr_high 5 (by omega) _ pk_us ?_))
  refine pk_lt A (r * r) (fun z => absurd z (by omega)) (fun _ => pk_le ((r + 1) * (r + 1)) A (fun z => absurd z (by omega)) (fun _ => pk_lt B (s * s) (fun z => absurd z (by omega)) (fun _ => pk_lt B ((s + 1) * (s + 1)) (fun _ => ?_) (fun z => absurd z (by omega)) rfl (by rw [nI_1, pk_mul])) rfl (pk_mul s s)) (by rw [nI_1, pk_mul])) rfl (pk_mul r r)
  refine tr_a4 hP2.1 hP2.2.1 hA hB (fun u v h1 h2 => ?_)
  exact br_t rfl (tr_dbl hp (tr_Pu hP2 5 (by omega) u v) hA hB pk_us pk_us h1 h2)
theorem tr_699 (hp : post 1 ()) (hP : tr_P A B C D lo hi) (hA : A ≤ B) (hB : B ≤ 127) (hC : C ≤ D) (hD : D ≤ 127) : wL_lawOf_699 post mc ms (nI A) (nI B) (nI C) (nI D) kc ks nl nh lo hi := by
  have k : ∀ z0 z1 : Int32, z1 = z0 → wL_lawOf_729 post mc ms (nI A) (nI B) (nI C) (nI D) z0 z1 kc ks nl nh lo hi := by
    intro z0 z1 hz
    unfold wL_lawOf_729
    refine br_t hz (tr_less 1 0 C D A B (by omega) (by omega) (by omega) hD (by omega) hB hP.2.2.1 hP.2.2.2 hP.1 hP.2.1 (fun r h1 h2 h3 => ?_))
    exact pk_le A D (fun g => pk_le B C (fun g2 => tr_762 hp hP hA hB hC hD (h3 g g2)) (fun g2 => tr_762 hp hP hA hB hC hD (h2 g g2))) (fun g => tr_762 hp hP hA hB hC hD (h1 g))
  unfold wL_lawOf_699
  refine tr_less 0 1 A B C D (by omega) (by omega) (by omega) hB (by omega) hD hP.1 hP.2.1 hP.2.2.1 hP.2.2.2 (fun r h1 h2 h3 => ?_)
  exact pk_le C B (fun g => pk_le D A (fun g2 => k _ _ (h3 g g2)) (fun g2 => k _ _ (h2 g g2))) (fun g => k _ _ (h1 g))
theorem tr_657 (hp : post 1 ()) (hP : tr_P A B C D lo hi) (hA : A ≤ B) (hB : B ≤ 127) (hC : C ≤ D) (hD : D ≤ 127) (h1 : D = 0 → lo 4 = 127) (h2 : 0 < D → lo 4 = nI A / nI D) (h3 : C = 0 → hi 4 = 127) : wL_lawOf_657 post mc ms (nI A) (nI B) (nI C) (nI D) kc ks nl nh lo hi := by
  have k := tr_699 (mc := mc) (ms := ms) (kc := kc) (ks := ks) (nl := nl) (nh := nh) hp hP hA hB hC hD
  unfold wL_lawOf_657 wL_lawOf_694
  exact pk_eq C 0 (fun g => tr_high 4 (by omega) 127 (h3 g) (br_t rfl (tr_low 4 (by omega) _ rfl (pk_eq D 0 (fun g2 => br_t (h1 g2) k) (fun g2 => ⟨nI_ne0 (by omega) (by omega), br_t (h2 (by omega)) k⟩))))) (fun _ => k)
theorem tr_md {X Y : Prop} {v : Int32} (hA : A ≤ B) (hB : B ≤ 127) (hC : C ≤ D) (hD : D ≤ 127) (h1 : D + C ≤ B + A → v = nI B - nI C) (h2 : B + A < D + C → v = nI D - nI A) (x : X) : wpL_most (fun r => (v = r → X) ∧ (¬ v = r → Y)) () (nI B - nI C) (nI D - nI A) := by
  unfold wpL_most
  refine ek_if (tr_sle hB (by omega) hD (by omega)) (fun g => br_t ?_ x) (fun g => br_t (h1 (by omega)) x)
  rcases Nat.lt_or_ge (B + A) (D + C) with q | q
  · exact h2 q
  · rw [h1 q]
    have e : nI B + nI A = nI D + nI C := by
      rw [nI_add, nI_add]
      congr 1
      omega
    grind
theorem tr_582 {z0 z1 : Int32} (hp : post 1 ()) (hP : tr_P A B C D lo hi) (hA : A ≤ B) (hB : B ≤ 127) (hC : C ≤ D) (hD : D ≤ 127) (hz : z1 = z0) (h1 : D + C ≤ B + A → hi 4 = nI B - nI C) (h2 : B + A < D + C → hi 4 = nI D - nI A) : wL_lawOf_582 post mc ms (nI A) (nI B) (nI C) (nI D) z0 z1 kc ks nl nh lo hi := by
  unfold wL_lawOf_582
  refine br_t hz (tr_high 4 (by omega) _ rfl (tr_md hA hB hC hD h1 h2 (tr_c6 hP hA hB hC hD (fun u v u1 u2 v1 v2 => ?_))))
  have k2 := tr_657 (mc := mc) (ms := ms) (kc := kc) (ks := ks) (nl := u) (nh := v) hp (tr_Pu hP 4 (by omega) u v) hA hB hC hD (fun g => by rw [pk_us]; exact u1 g) (fun g => by rw [pk_us]; exact u2 g) (fun g => by rw [pk_us]; exact v1 g)
  exact br_t rfl (pk_le C 0 (fun _ => k2) (fun g => tr_low 4 (by omega) _ pk_us ⟨nI_ne0 (by omega) (by omega), br_t (u2 (by omega)) (tr_high 4 (by omega) _ pk_us ⟨nI_ne0 (by omega) (by omega), br_t (v2 g) k2⟩)⟩))
theorem tr_529 {x z0 z1 : Int32} (hp : post 1 ()) (hP : tr_P A B C D lo hi) (hA : A ≤ B) (hB : B ≤ 127) (hC : C ≤ D) (hD : D ≤ 127) (hz : z1 = z0) (h1 : x = 0 → B < C ∨ D < A) (h2 : ¬ x = 0 → C ≤ B ∧ A ≤ D) : wL_lawOf_529 post mc ms (nI A) (nI B) (nI C) (nI D) x z0 z1 kc ks nl nh lo hi := by
  unfold wL_lawOf_529
  refine br_t hz (tr_c8 hP hA hB hC hD (fun u v u1 u2 u3 v1 v2 => ?_))
  have k : ∀ z : Int32, u = z → wL_lawOf_582 post mc ms (nI A) (nI B) (nI C) (nI D) z u kc ks u v (upd lo 4 u) (upd hi 4 v) := fun z e => tr_582 hp (tr_Pu hP 4 (by omega) u v) hA hB hC hD e (fun g => by rw [pk_us]; exact v1 g) (fun g => by rw [pk_us]; exact v2 g)
  exact br_t rfl (tr_low 4 (by omega) _ pk_us (br_c (fun g => pk_le C B (fun g2 => k _ (u3 (by have := h1 g; omega))) (fun g2 => k _ (u2 g2))) (fun g => k _ (u1 (h2 g).1 (h2 g).2))))
theorem tr_478 {x z0 z1 : Int32} (hp : post 1 ()) (hP : tr_P A B C D lo hi) (hA : A ≤ B) (hB : B ≤ 127) (hC : C ≤ D) (hD : D ≤ 127) (hz : z1 = z0) (h1 : x = 0 → (B < C ∨ D < A) ∧ lo 4 = 0 ∧ hi 4 = 127) (h2 : ¬ x = 0 → (C ≤ B ∧ A ≤ D) ∧ lo 4 = nI (max A C) ∧ hi 4 = nI (min B D)) : wL_lawOf_478 post mc ms (nI A) (nI B) (nI C) (nI D) x z0 z1 kc ks nl nh lo hi := by
  unfold wL_lawOf_478 wL_lawOf_503
  have k : ∀ y0 y1 : Int32, y1 = y0 → wL_lawOf_529 post mc ms (nI A) (nI B) (nI C) (nI D) x y0 y1 kc ks nl nh lo hi := fun y0 y1 e => tr_529 hp hP hA hB hC hD e (fun g => (h1 g).1) (fun g => (h2 g).1)
  exact br_t hz (tr_low 4 (by omega) _ rfl (br_c
    (fun g => br_t (h1 g).2.1 (tr_high 4 (by omega) _ rfl (br_t g (k _ _ (h1 g).2.2))))
    (fun g => tr_most A C (by omega) (by omega) (br_t (h2 g).2.1 (tr_high 4 (by omega) _ rfl (br_f g (tr_least B D hB hD (k _ _ (h2 g).2.2))))))))
theorem tr_455 {x : Int32} (hp : post 1 ()) (hQ : tr_Q A B C D lo hi) (hA : A ≤ B) (hB : B ≤ 127) (hC : C ≤ D) (hD : D ≤ 127) (h1 : x = 0 → min B D < max A C) (h2 : ¬ x = 0 → max A C ≤ min B D) : wL_lawOf_455 post mc ms (nI A) (nI B) (nI C) (nI D) x kc ks nl nh lo hi := by
  unfold wL_lawOf_455
  refine tr_c10 hQ.1 hA hB hC hD (fun g => ?_) (fun g => ?_)
  · have n : ¬ x = 0 := fun e => by have := h1 e; omega
    exact br_f n (tr_478 hp (tr_Pu hQ.1 4 (by omega) _ _) hA hB hC hD rfl (fun e => absurd e n) (fun _ => ⟨by omega, pk_us, pk_us⟩))
  · have n : x = 0 := by
      rcases Decidable.em (x = 0) with e | e
      · exact e
      · have := h2 e
        omega
    exact br_t n (tr_478 hp hQ.1 hA hB hC hD rfl (fun _ => ⟨by omega, hQ.2.1, hQ.2.2⟩) (fun e => absurd n e))
theorem tr_284 {z0 z1 : Int32} (hp : post 1 ()) (hQ : tr_Q A B C D lo hi) (hA : A ≤ B) (hB : B ≤ 127) (hC : C ≤ D) (hD : D ≤ 127) (hz : z1 = z0) : wL_lawOf_284 post mc ms (nI A) (nI B) (nI C) (nI D) z0 z1 kc ks nl nh lo hi := by
  have m1 : A * C ≤ 127 * 127 := Nat.mul_le_mul (by omega) (by omega)
  have m2 : B * D ≤ 127 * 127 := Nat.mul_le_mul hB hD
  have e1 : nI A * nI C / 128 = nI (A * C / 128) := by
    rw [pk_mul]
    exact pk_div (d := 128) (by omega) (by omega) (by omega)
  have e2 : nI B * nI D / 128 = nI (B * D / 128) := by
    rw [pk_mul]
    exact pk_div (d := 128) (by omega) (by omega) (by omega)
  unfold wL_lawOf_284
  refine br_t hz (tr_c5 hQ.1 hA hB hC hD ?_)
  have hQ1 := tr_Qu hQ 3 (by omega) (by omega) (nI (A * C / 128)) (nI (B * D / 128))
  refine br_t rfl (tr_low 3 (by omega) _ pk_us ⟨by decide, br_t e1.symm (tr_high 3 (by omega) _ pk_us ⟨by decide, br_t e2.symm ?_⟩)⟩)
  refine tr_c7 hQ1.1 hA hB hC hD ?_
  have hQ2 := tr_Qu hQ1 3 (by omega) (by omega) (nI (max A C)) (nI (max B D))
  refine br_t rfl (tr_low 3 (by omega) _ pk_us (tr_most A C (by omega) (by omega) (br_t rfl (tr_high 3 (by omega) _ pk_us (tr_most B D hB hD (br_t rfl ?_))))))
  refine tr_c9 hQ2.1 hA hB hC hD ?_
  have hQ3 := tr_Qu hQ2 3 (by omega) (by omega) (nI (min A C)) (nI (max B D))
  refine br_t rfl (tr_low 3 (by omega) _ pk_us (tr_least A C (by omega) (by omega) (br_t rfl (tr_high 3 (by omega) _ pk_us (tr_most B D hB hD (br_t rfl ?_))))))
  refine tr_most A C (by omega) (by omega) (tr_least B D hB hD (pk_lt (min B D) (max A C) (fun g => ?_) (fun g => ?_)))
  · exact tr_455 hp hQ3 hA hB hC hD (fun _ => g) (fun e => absurd rfl e)
  · exact tr_455 hp hQ3 hA hB hC hD (fun e => absurd e (by decide)) (fun _ => g)
theorem tr_232 {x : Int32} (hp : post 1 ()) (hQ : tr_Q A B C D lo hi) (hA : A ≤ B) (hB : B ≤ 127) (hC : C ≤ D) (hD : D ≤ 127) (h1 : x = 0 → lo 2 = (nI A - nI D) &&& 127 ∧ hi 2 = (nI B - nI C) &&& 127) (h2 : ¬ x = 0 → lo 2 = 0 ∧ hi 2 = 127) : wL_lawOf_232 post mc ms (nI A) (nI B) (nI C) (nI D) x kc ks nl nh lo hi := by
  unfold wL_lawOf_232 wL_lawOf_257
  exact tr_low 2 (by omega) _ rfl (br_c
    (fun g => br_t (h1 g).1 (tr_high 2 (by omega) _ rfl (br_t g (tr_284 hp hQ hA hB hC hD (h1 g).2))))
    (fun g => br_t (h2 g).1 (tr_high 2 (by omega) _ rfl (br_f g (tr_284 hp hQ hA hB hC hD (h2 g).2)))))
theorem tr_192 {z0 z1 : Int32} (hp : post 1 ()) (hQ : tr_Q A B C D lo hi) (hA : A ≤ B) (hB : B ≤ 127) (hC : C ≤ D) (hD : D ≤ 127) (hz : z1 = z0) : wL_lawOf_192 post mc ms (nI A) (nI B) (nI C) (nI D) z0 z1 kc ks nl nh lo hi := by
  unfold wL_lawOf_192 wL_lawOf_231
  refine br_t hz (tr_c1 hQ.1 hA hB hC hD (fun u v h1 h2 => br_t rfl ?_))
  have hQ1 := tr_Qu hQ 2 (by omega) (by omega) u v
  have k : (D ≤ A ∨ B < C) → wL_lawOf_232 post mc ms (nI A) (nI B) (nI C) (nI D) 0 kc ks u v (upd lo 2 u) (upd hi 2 v) := fun g => tr_232 hp hQ1 hA hB hC hD (fun _ => ⟨by rw [pk_us, (h2 g).1, tr_sub127 (by omega) hD], by rw [pk_us, (h2 g).2, tr_sub127 hB (by omega)]⟩) (fun z => absurd rfl z)
  refine ek_if (tr_0sle (by omega) hD) (fun g => k (Or.inl g)) (fun g => ek_if (tr_slt0 hB (by omega)) (fun g2 => k (Or.inr g2)) (fun g2 => ?_))
  have q := h1 (by omega) (by omega)
  exact tr_232 hp hQ1 hA hB hC hD (fun z => absurd z (by decide)) (fun _ => ⟨by rw [pk_us]; exact q.1, by rw [pk_us]; exact q.2⟩)
theorem tr_140 {x : Int32} (hp : post 1 ()) (hQ : tr_Q A B C D lo hi) (hA : A ≤ B) (hB : B ≤ 127) (hC : C ≤ D) (hD : D ≤ 127) (h1 : x = 0 → lo 2 = (nI A + nI C) &&& 127 ∧ hi 2 = (nI B + nI D) &&& 127) (h2 : ¬ x = 0 → lo 2 = 0 ∧ hi 2 = 127) : wL_lawOf_140 post mc ms (nI A) (nI B) (nI C) (nI D) x kc ks nl nh lo hi := by
  unfold wL_lawOf_140 wL_lawOf_165
  exact tr_low 2 (by omega) _ rfl (br_c
    (fun g => br_t (h1 g).1 (tr_high 2 (by omega) _ rfl (br_t g (tr_192 hp hQ hA hB hC hD (h1 g).2))))
    (fun g => br_t (h2 g).1 (tr_high 2 (by omega) _ rfl (br_f g (tr_192 hp hQ hA hB hC hD (h2 g).2)))))
theorem tr_sum {u v : Int32} (hp : post 1 ()) (hQ : tr_Q A B C D (upd lo 2 u) (upd hi 2 v)) (hA : A ≤ B) (hB : B ≤ 127) (hC : C ≤ D) (hD : D ≤ 127) (h1 : A + C < 128 → 128 ≤ B + D → u = 0 ∧ v = 127) (h2 : 128 ≤ A + C ∨ B + D < 128 → u = nI ((A + C) % 128) ∧ v = nI ((B + D) % 128)) :
    ((128 : Int32) ≤ nI A + nI C → wL_lawOf_139 post mc ms (nI A) (nI B) (nI C) (nI D) kc ks u v (upd lo 2 u) (upd hi 2 v)) ∧ (¬ (128 : Int32) ≤ nI A + nI C → ((nI B + nI D < 128 → wL_lawOf_139 post mc ms (nI A) (nI B) (nI C) (nI D) kc ks u v (upd lo 2 u) (upd hi 2 v)) ∧ (¬ nI B + nI D < 128 → wL_lawOf_140 post mc ms (nI A) (nI B) (nI C) (nI D) 1 kc ks u v (upd lo 2 u) (upd hi 2 v)))) := by
  have k : (128 ≤ A + C ∨ B + D < 128) → wL_lawOf_139 post mc ms (nI A) (nI B) (nI C) (nI D) kc ks u v (upd lo 2 u) (upd hi 2 v) := by
    intro g
    unfold wL_lawOf_139
    exact tr_140 hp hQ hA hB hC hD (fun _ => ⟨by rw [pk_us, (h2 g).1, tr_add127 (by omega)], by rw [pk_us, (h2 g).2, tr_add127 (by omega)]⟩) (fun z => absurd rfl z)
  exact pk_le 128 (A + C) (fun g => k (Or.inl g)) (fun g => pk_lt (B + D) 128 (fun g2 => k (Or.inr g2)) (fun g2 => tr_140 hp hQ hA hB hC hD (fun z => absurd z (by decide)) (fun _ => ⟨by rw [pk_us]; exact (h1 g g2).1, by rw [pk_us]; exact (h1 g g2).2⟩)) (nI_add B D) rfl) rfl (nI_add A C)
theorem tr_62 (hp : post 1 ()) (hm : kc + 3 ≤ mc) (hs : ks + 16 ≤ ms) (hA : A ≤ B) (hB : B ≤ 127) (hC : C ≤ D) (hD : D ≤ 127) : wL_lawOf_62 post mc ms (nI A) (nI B) (nI C) (nI D) kc ks := by
  unfold wL_lawOf_62
  refine ⟨by omega, by omega, 2, 12, by omega, by omega, tr_init (by omega) (by omega) (fun hi h127 => ?_)⟩
  refine tr_set 0 A B (by omega) hA hB (br_t rfl ?_)
  refine tr_set 1 C D (by omega) hC hD (br_t rfl ?_)
  have hQ : tr_Q A B C D (upd (upd (fun _ => 0) 0 (nI A)) 1 (nI C)) (upd (upd hi 0 (nI B)) 1 (nI D)) :=
    ⟨⟨by rw [pk_un (by omega), pk_us], by rw [pk_un (by omega), pk_us], pk_us, pk_us⟩, by rw [pk_un (by omega), pk_un (by omega)], by rw [pk_un (by omega), pk_un (by omega)]; exact h127 4 (by omega)⟩
  refine tr_c0 hQ.1 hA hB hC hD (fun u v h1 h2 => br_t rfl ?_)
  exact tr_sum hp (tr_Qu hQ 2 (by omega) (by omega) u v) hA hB hC hD h1 h2
end
theorem tr_sat (x : Nat) (y : Int32) (hx : x ≤ 127) {P : Int32 → Prop} (h : ∀ b : Nat, x ≤ b → b ≤ 127 → P (nI b)) : (nI x + (y &&& 127) ≤ 127 → P (nI x + (y &&& 127))) ∧ (¬ nI x + (y &&& 127) ≤ 127 → P 127) := by
  obtain ⟨j, hj, e⟩ := pk_andE y (m := 127) 7 (by decide)
  rw [e, nI_add]
  exact pk_le (x + j) 127 (fun g => h (x + j) (by omega) g) (fun _ => h 127 hx (by omega))
theorem tr_lawOf {post : Int32 → St0 → Prop} {mc ms : Nat} (hp : post 1 ()) (hm : 3 ≤ mc) (hs : 16 ≤ ms) (p0 p1 p2 p3 : Int32) : wpL_lawOf post mc ms () p0 p1 p2 p3 := by
  obtain ⟨A, hA, eA⟩ := pk_andE p0 (m := 127) 7 (by decide)
  obtain ⟨C, hC, eC⟩ := pk_andE p2 (m := 127) 7 (by decide)
  unfold wpL_lawOf
  refine nm_r eA (tr_sat A p1 (by omega) (P := fun b => wL_lawOf_30 post mc ms p2 p3 (nI A) b 0 0) (fun B hAB hB => ?_))
  show wL_lawOf_30 post mc ms p2 p3 (nI A) (nI B) 0 0
  unfold wL_lawOf_30
  exact nm_r eC (tr_sat C p3 (by omega) (P := fun d => wL_lawOf_62 post mc ms (nI A) (nI B) (nI C) d 0 0) (fun D hCD hD => tr_62 hp (by omega) (by omega) hAB hB hCD hD))
theorem tr_cell {post : Int32 → Prop} {L : Nat} {xs : Nat → Int32} {x : Int32} (k : Nat) (hL : L < 2 ^ 31) (hk : k < 2 ^ 31) (h : ∀ y, post y) (hx : x = nI k := by rfl) : wpL_cellAt post L xs () x := by
  subst hx
  unfold wpL_cellAt
  exact pk_le L k (fun _ => h _) (fun g => ⟨pk_in k L g, h _⟩)
end
section
theorem i_vc (xs : Nat → Int32) (L : Nat) (hL : L ≤ 4) : wpL_law (fun r => r = 1) L xs := by
  unfold wpL_law
  exact tr_cell 0 (by omega) (by omega) (fun y0 => tr_cell 1 (by omega) (by omega) (fun y1 => tr_cell 2 (by omega) (by omega) (fun y2 => tr_cell 3 (by omega) (by omega) (fun y3 => ⟨14, 224, by omega, by omega, tr_lawOf rfl (by omega) (by omega) y0 y1 y2 y3⟩))))
end
