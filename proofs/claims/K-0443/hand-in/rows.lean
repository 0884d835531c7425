section
theorem pk_sub {a b : Nat} (h : b ≤ a) : nI a - nI b = nI (a - b) := by
  obtain ⟨c, rfl⟩ : ∃ c, a = c + b := ⟨a - b, by omega⟩
  rw [← nI_add, Int32.add_sub_cancel, Nat.add_sub_cancel]
theorem pk_mul (a b : Nat) : nI a * nI b = nI (a * b) := (Int32.ofNat_mul a b).symm
theorem pk_div {a d : Nat} (ha : a < 2 ^ 31) (h0 : 0 < d) (hd : d < 2 ^ 31) : nI a / nI d = nI (a / d) := by
  apply Int32.toInt_inj.mp
  rw [lg_idiv_nonneg (by rw [nI_toInt ha]; omega) (by rw [nI_toInt hd]; omega), nI_toInt ha, nI_toInt hd, nI_toInt (Nat.lt_of_le_of_lt (Nat.div_le_self a d) ha)]
  first | rfl | exact (Int.natCast_ediv _ _).symm
theorem pk_rem {a d : Nat} (ha : a < 2 ^ 31) (h0 : 0 < d) (hd : d < 2 ^ 31) : nI a - nI a / nI d * nI d = nI (a % d) := by
  rw [pk_div ha h0 hd, pk_mul, pk_sub (Nat.div_mul_le_self a d)]
  exact congrArg nI (by have := Nat.div_add_mod' a d; omega)
theorem pk_vb (z : Int32) : vp_nar .byte z.toInt8.toInt32 = z.toInt8.toInt32 := by rw [vp_nar_byte]; simp
theorem pk_lT {n : Nat} (h : n < 2 ^ 63) : (lN n).toInt = (n : Int) := lg_ofNat_toInt h
theorem pk_lDiv {a b : Nat} (ha : a < 2 ^ 63) (h0 : 0 < b) (hb : b < 2 ^ 63) : lN a / lN b = lN (a / b) := by
  apply Int64.toInt_inj.mp
  rw [lg_ldiv_nonneg (by rw [pk_lT ha]; omega) (by rw [pk_lT hb]; omega), pk_lT ha, pk_lT hb, pk_lT (Nat.lt_of_le_of_lt (Nat.div_le_self a b) ha)]
  rfl
theorem pk_lRem {a b : Nat} (ha : a < 2 ^ 63) (h0 : 0 < b) (hb : b < 2 ^ 63) : lN a - lN a / lN b * lN b = lN (a % b) := by
  rw [pk_lDiv ha h0 hb, lN_mul, lN_sub (Nat.div_mul_le_self a b)]
  exact congrArg lN (by have := Nat.div_add_mod' a b; omega)
end
section
/-! what each method computes, at a general post; g j: how many nodes bucket j holds -/
def dq_sm (g : Nat → Nat) : Nat := g 0 + g 1 + g 2 + g 3
def dq_pt (g : Nat → Nat) (b m : Nat) : Nat → Nat := fun j => if j = b then m else g j
def dq_st (c : Nat) (a : Nat → Int32) (g : Nat → Nat) : Int32 × Int32 × (Nat → Int32) × (Nat → Int32) := (nI c, nI (dq_sm g), a, fun j => nI (g j))
theorem dq_upd (g : Nat → Nat) (b m : Nat) : upd (fun j => nI (g j)) b (nI m) = fun j => nI (dq_pt g b m j) := by
  funext j
  unfold upd dq_pt
  by_cases h : j = b
  · rw [if_pos h, if_pos h]
  · rw [if_neg h, if_neg h]
theorem dq_sum {g : Nat → Nat} {b : Nat} (m : Nat) (hb : b < 4) : dq_sm (dq_pt g b m) + g b = dq_sm g + m := by
  have h : b = 0 ∨ b = 1 ∨ b = 2 ∨ b = 3 := by omega
  unfold dq_sm dq_pt
  rcases h with rfl | rfl | rfl | rfl
  · rw [if_pos rfl, if_neg (by decide), if_neg (by decide), if_neg (by decide)]; omega
  · rw [if_neg (by decide), if_pos rfl, if_neg (by decide), if_neg (by decide)]; omega
  · rw [if_neg (by decide), if_neg (by decide), if_pos rfl, if_neg (by decide)]; omega
  · rw [if_neg (by decide), if_neg (by decide), if_neg (by decide), if_pos rfl]; omega
theorem dq_le2 {g : Nat → Nat} {b m : Nat} (hg : ∀ j, g j ≤ 2) (hm : m ≤ 2) : ∀ j, dq_pt g b m j ≤ 2 := by
  intro j
  unfold dq_pt
  by_cases h : j = b
  · rw [if_pos h]; exact hm
  · rw [if_neg h]; exact hg j
theorem dq_sm8 {g : Nat → Nat} (hg : ∀ j, g j ≤ 2) : dq_sm g ≤ 8 := by
  have h0 := hg 0
  have h1 := hg 1
  have h2 := hg 2
  have h3 := hg 3
  unfold dq_sm
  omega
/-- the first bucket from c on that isn't empty -/
theorem dq_first {g : Nat → Nat} (c : Nat) (h : dq_sm g ≠ 0) : ∃ q, q < 4 ∧ g ((c + q) % 4) ≠ 0 ∧ ∀ j, j < q → g ((c + j) % 4) = 0 := by
  by_cases h0 : g ((c + 0) % 4) = 0
  · by_cases h1 : g ((c + 1) % 4) = 0
    · by_cases h2 : g ((c + 2) % 4) = 0
      · by_cases h3 : g ((c + 3) % 4) = 0
        · exfalso
          apply h
          unfold dq_sm
          have hc : c % 4 = 0 ∨ c % 4 = 1 ∨ c % 4 = 2 ∨ c % 4 = 3 := by omega
          rcases hc with e | e | e | e
          · rw [show (c + 0) % 4 = 0 by omega] at h0
            rw [show (c + 1) % 4 = 1 by omega] at h1
            rw [show (c + 2) % 4 = 2 by omega] at h2
            rw [show (c + 3) % 4 = 3 by omega] at h3
            omega
          · rw [show (c + 0) % 4 = 1 by omega] at h0
            rw [show (c + 1) % 4 = 2 by omega] at h1
            rw [show (c + 2) % 4 = 3 by omega] at h2
            rw [show (c + 3) % 4 = 0 by omega] at h3
            omega
          · rw [show (c + 0) % 4 = 2 by omega] at h0
            rw [show (c + 1) % 4 = 3 by omega] at h1
            rw [show (c + 2) % 4 = 0 by omega] at h2
            rw [show (c + 3) % 4 = 1 by omega] at h3
            omega
          · rw [show (c + 0) % 4 = 3 by omega] at h0
            rw [show (c + 1) % 4 = 0 by omega] at h1
            rw [show (c + 2) % 4 = 1 by omega] at h2
            rw [show (c + 3) % 4 = 2 by omega] at h3
            omega
        · refine ⟨3, by decide, h3, fun j hj => ?_⟩
          have e : j = 0 ∨ j = 1 ∨ j = 2 := by omega
          rcases e with rfl | rfl | rfl
          · exact h0
          · exact h1
          · exact h2
      · refine ⟨2, by decide, h2, fun j hj => ?_⟩
        have e : j = 0 ∨ j = 1 := by omega
        rcases e with rfl | rfl
        · exact h0
        · exact h1
    · refine ⟨1, by decide, h1, fun j hj => ?_⟩
      have e : j = 0 := by omega
      subst e
      exact h0
  · exact ⟨0, by decide, h0, fun j hj => absurd hj (Nat.not_lt_zero j)⟩
theorem dq_nar {m : Nat} (hm : m ≤ 2) : vp_nar .byte (nI m).toInt8.toInt32 = nI m := by
  rw [pk_vb]
  have h : m = 0 ∨ m = 1 ∨ m = 2 := by omega
  rcases h with rfl | rfl | rfl
  · decide
  · decide
  · decide
theorem dq_ix {b m : Nat} : nI b * 2 + nI m = nI (b * 2 + m) := by
  rw [show (2 : Int32) = nI 2 from rfl, pk_mul, nI_add]
theorem dq_xadd {post : Int32 → SX → Prop} {c d b m : Nat} {hl p0 : Int32} {a t : Nat → Int32} (hc : c ≤ d) (hd : d < 2 ^ 31) (h3 : d ≤ c + 3) (hb : d % 4 = b) (ht : t b = nI m) (hm : m < 2) (hp : post 1 (nI c, hl + 1, upd a (b * 2 + m) p0, upd t b (nI (m + 1)))) : wpX_add post (nI c, hl, a, t) p0 (nI d) := by
  have e1 : nI d - nI c = nI (d - c) := pk_sub hc
  have e2 : nI d - nI d / 4 * 4 = nI b := by rw [← hb]; exact pk_rem (d := 4) hd (by decide) (by decide)
  have e3 : (nI b).toNatClampNeg = b := nI_clamp (by omega)
  have e5 : (nI (b * 2 + m)).toNatClampNeg = b * 2 + m := nI_clamp (by omega)
  have i4 : vp_in (nI b) 4 := vp_in_nI (by omega) (by decide)
  have i8 : vp_in (nI (b * 2 + m)) 8 := vp_in_nI (by omega) (by decide)
  have c1 : nI c ≤ nI d := nI_le hc hd
  have c2 : nI d - nI c ≤ 3 := by rw [e1]; exact nI_le (b := 3) (by omega) (by decide)
  have c3 : nI m < 2 := nI_lt (b := 2) hm (by decide)
  refine br_t c1 (br_t c2 ⟨by decide, nm_r e2 ?_⟩)
  rw [e3, ht, dq_ix, e5, nI_1 m]
  exact ⟨i4, br_t c3 ⟨i4, i8, nm_e ⟨i4, i4, nm_e (nm_e hp)⟩⟩⟩
theorem dq_yadd {post : Int32 → SY → Prop} {c d b m : Nat} {hl p0 : Int32} {a t : Nat → Int32} (hc : c ≤ d) (hd : d < 2 ^ 31) (h3 : d ≤ c + 3) (hb : d % 4 = b) (ht : t b = nI m) (hm : m < 2) (hp : post 1 (nI c, hl + 1, upd a (b * 2 + m) p0, upd t b (nI (m + 1)))) : wpY_add post (nI c, hl, a, t) p0 (nI d) := by
  have e1 : nI d - nI c = nI (d - c) := pk_sub hc
  have e2 : nI d - nI d / 4 * 4 = nI b := by rw [← hb]; exact pk_rem (d := 4) hd (by decide) (by decide)
  have e3 : (nI b).toNatClampNeg = b := nI_clamp (by omega)
  have e5 : (nI (b * 2 + m)).toNatClampNeg = b * 2 + m := nI_clamp (by omega)
  have i4 : vp_in (nI b) 4 := vp_in_nI (by omega) (by decide)
  have i8 : vp_in (nI (b * 2 + m)) 8 := vp_in_nI (by omega) (by decide)
  have c1 : nI c ≤ nI d := nI_le hc hd
  have c2 : nI d - nI c ≤ 3 := by rw [e1]; exact nI_le (b := 3) (by omega) (by decide)
  have c3 : nI m < 2 := nI_lt (b := 2) hm (by decide)
  have c4 : vp_nar .byte (nI m + 1).toInt8.toInt32 = nI (m + 1) := by rw [nI_1]; exact dq_nar (by omega)
  refine br_t c1 (br_t c2 ⟨by decide, nm_r e2 ?_⟩)
  rw [e3, ht]
  refine ⟨i4, br_t c3 ⟨i4, nm_e ?_⟩⟩
  rw [dq_ix, e5, c4]
  exact ⟨i8, nm_e ⟨i4, nm_e (nm_e hp)⟩⟩
/-- refused: too early, too late, or the bucket is full -/
theorem dq_xno {post : Int32 → SX → Prop} {c : Nat} {hl p0 p1 : Int32} {a t : Nat → Int32} (h : ¬ nI c ≤ p1) (hp : post 0 (nI c, hl, a, t)) : wpX_add post (nI c, hl, a, t) p0 p1 := br_f h hp
theorem dq_yno {post : Int32 → SY → Prop} {c : Nat} {hl p0 p1 : Int32} {a t : Nat → Int32} (h : ¬ nI c ≤ p1) (hp : post 0 (nI c, hl, a, t)) : wpY_add post (nI c, hl, a, t) p0 p1 := br_f h hp
theorem dq_xfar {post : Int32 → SX → Prop} {c : Nat} {hl p0 p1 : Int32} {a t : Nat → Int32} (h : nI c ≤ p1) (h3 : ¬ p1 - nI c ≤ 3) (hp : post 0 (nI c, hl, a, t)) : wpX_add post (nI c, hl, a, t) p0 p1 := br_t h (br_f h3 hp)
theorem dq_yfar {post : Int32 → SY → Prop} {c : Nat} {hl p0 p1 : Int32} {a t : Nat → Int32} (h : nI c ≤ p1) (h3 : ¬ p1 - nI c ≤ 3) (hp : post 0 (nI c, hl, a, t)) : wpY_add post (nI c, hl, a, t) p0 p1 := br_t h (br_f h3 hp)
theorem dq_xfull {post : Int32 → SX → Prop} {c d b : Nat} {hl p0 : Int32} {a t : Nat → Int32} (h : nI c ≤ nI d) (h3 : nI d - nI c ≤ 3) (hd : d < 2 ^ 31) (hb : d % 4 = b) (hm : ¬ t b < 2) (hp : post 0 (nI c, hl, a, t)) : wpX_add post (nI c, hl, a, t) p0 (nI d) := by
  have e2 : nI d - nI d / 4 * 4 = nI b := by rw [← hb]; exact pk_rem (d := 4) hd (by decide) (by decide)
  have e3 : (nI b).toNatClampNeg = b := nI_clamp (by omega)
  have i4 : vp_in (nI b) 4 := vp_in_nI (by omega) (by decide)
  refine br_t h (br_t h3 ⟨by decide, nm_r e2 ?_⟩)
  rw [e3]
  exact ⟨i4, br_f hm hp⟩
theorem dq_yfull {post : Int32 → SY → Prop} {c d b : Nat} {hl p0 : Int32} {a t : Nat → Int32} (h : nI c ≤ nI d) (h3 : nI d - nI c ≤ 3) (hd : d < 2 ^ 31) (hb : d % 4 = b) (hm : ¬ t b < 2) (hp : post 0 (nI c, hl, a, t)) : wpY_add post (nI c, hl, a, t) p0 (nI d) := by
  have e2 : nI d - nI d / 4 * 4 = nI b := by rw [← hb]; exact pk_rem (d := 4) hd (by decide) (by decide)
  have e3 : (nI b).toNatClampNeg = b := nI_clamp (by omega)
  have i4 : vp_in (nI b) 4 := vp_in_nI (by omega) (by decide)
  refine br_t h (br_t h3 ⟨by decide, nm_r e2 ?_⟩)
  rw [e3]
  exact ⟨i4, br_f hm hp⟩
theorem dq_l4 {n : Nat} (h : n < 2 ^ 31) : (lN n - lN n / 4 * 4).toInt32 = nI (n % 4) := by
  rw [← lN_i (n % 4)]
  exact congrArg Int64.toInt32 (pk_lRem (b := 4) (by omega) (by decide) (by decide))
/-- X's scan: r empty buckets, then the one at q, which holds m + 1 nodes -/
theorem dq_xpop {post : Int32 → SX → Prop} {c q b m : Nat} {hl : Int32} {a t : Nat → Int32} (hc : c + 4 < 2 ^ 31) (hq : q < 4) (hb : (c + q) % 4 = b) (ht : t b = nI (m + 1)) (hm : m < 2) (hp : post (a (b * 2 + m)) (nI (c + q), hl - 1, a, upd t b (nI m))) : ∀ r i : Nat, i + r = q → (∀ j, i ≤ j → j < q → t ((c + j) % 4) = 0) → wX_popMin_11 post (nI c) hl a t (r + 1) (nI i) := by
  intro r
  induction r with
  | zero =>
    intro i hi hz
    obtain rfl : i = q := by omega
    have e1 : (nI c).toInt64 + (nI i).toInt64 = lN (c + i) := by rw [nI_l (by omega), nI_l (by omega), lN_add]
    have e2 : (lN (c + i) - lN (c + i) / 4 * 4).toInt32 = nI b := by rw [dq_l4 (by omega), hb]
    have e3 : (nI b).toNatClampNeg = b := nI_clamp (by omega)
    have e5 : (nI (b * 2 + m)).toNatClampNeg = b * 2 + m := nI_clamp (by omega)
    have i4 : vp_in (nI b) 4 := vp_in_nI (by omega) (by decide)
    have i8 : vp_in (nI (b * 2 + m)) 8 := vp_in_nI (by omega) (by decide)
    have c1 : ¬ (4 : Int32) ≤ nI i := nI_ge (b := 4) hq (by decide)
    have c2 : ¬ nI (m + 1) ≤ 0 := nI_nle (by omega) (by omega)
    have e6 : upd t b (nI m) b = nI m := if_pos rfl
    refine br_f c1 (nm_r e1 ⟨by decide, nm_r e2 ?_⟩)
    rw [e3, ht, nI_pred, lN_i]
    refine ⟨i4, br_f c2 ⟨i4, i4, nm_e (nm_e ⟨i4, ?_⟩)⟩⟩
    rw [e6, dq_ix, e5]
    exact ⟨i8, hp⟩
  | succ r ih =>
    intro i hi hz
    have e1 : (nI c).toInt64 + (nI i).toInt64 = lN (c + i) := by rw [nI_l (by omega), nI_l (by omega), lN_add]
    have e2 : (lN (c + i) - lN (c + i) / 4 * 4).toInt32 = nI ((c + i) % 4) := dq_l4 (by omega)
    have e3 : (nI ((c + i) % 4)).toNatClampNeg = (c + i) % 4 := nI_clamp (by omega)
    have i4 : vp_in (nI ((c + i) % 4)) 4 := vp_in_nI (by omega) (by decide)
    have c1 : ¬ (4 : Int32) ≤ nI i := nI_ge (b := 4) (by omega) (by decide)
    have z : t ((c + i) % 4) ≤ 0 := by rw [hz i (Nat.le_refl i) (by omega)]; decide
    refine br_f c1 (nm_r e1 ⟨by decide, nm_r e2 ?_⟩)
    rw [e3]
    exact ⟨i4, br_t z (nm_r (nI_1 i) (ih (i + 1) (by omega) (fun j h1 h2 => hz j (by omega) h2)))⟩
theorem dq_ypop {post : Int32 → SY → Prop} {c q b m : Nat} {hl : Int32} {a t : Nat → Int32} (hc : c + 4 < 2 ^ 31) (hq : q < 4) (hb : (c + q) % 4 = b) (ht : t b = nI (m + 1)) (hm : m < 2) (hp : post (a (b * 2 + m)) (nI (c + q), hl - 1, a, upd t b (nI m))) : ∀ r i : Nat, i + r = q → (∀ j, i ≤ j → j < q → t ((c + j) % 4) = 0) → wY_popMin_9 post hl a t (r + 1) (nI (c + i)) := by
  intro r
  induction r with
  | zero =>
    intro i hi hz
    obtain rfl : i = q := by omega
    have e2 : nI (c + i) - nI (c + i) / 4 * 4 = nI b := by rw [← hb]; exact pk_rem (d := 4) (by omega) (by decide) (by decide)
    have e3 : (nI b).toNatClampNeg = b := nI_clamp (by omega)
    have e5 : (nI (b * 2 + m)).toNatClampNeg = b * 2 + m := nI_clamp (by omega)
    have i4 : vp_in (nI b) 4 := vp_in_nI (by omega) (by decide)
    have i8 : vp_in (nI (b * 2 + m)) 8 := vp_in_nI (by omega) (by decide)
    have c2 : ¬ nI (m + 1) = 0 := nI_ne0 (by omega) (by omega)
    have c4 : vp_nar .byte (nI m).toInt8.toInt32 = nI m := dq_nar (by omega)
    rw [wY_popMin_9]
    dsimp only
    rw [e2, e3, ht]
    refine ⟨by decide, i4, br_f c2 (nm_e ⟨by decide, nm_e ?_⟩)⟩
    rw [e3, ht, nI_pred]
    refine ⟨i4, nm_e ?_⟩
    rw [c4, dq_ix, e5]
    exact ⟨i4, nm_e ⟨i8, hp⟩⟩
  | succ r ih =>
    intro i hi hz
    have e2 : nI (c + i) - nI (c + i) / 4 * 4 = nI ((c + i) % 4) := pk_rem (d := 4) (by omega) (by decide) (by decide)
    have e3 : (nI ((c + i) % 4)).toNatClampNeg = (c + i) % 4 := nI_clamp (by omega)
    have i4 : vp_in (nI ((c + i) % 4)) 4 := vp_in_nI (by omega) (by decide)
    have z : t ((c + i) % 4) = 0 := hz i (Nat.le_refl i) (by omega)
    rw [wY_popMin_9]
    dsimp only
    rw [e2, e3]
    exact ⟨by decide, i4, br_t z (nm_r (nI_1 (c + i)) (ih (i + 1) (by omega) (fun j h1 h2 => hz j (by omega) h2)))⟩
end
section
/-- both objects hold the same: a cursor c of at most k, the nodes a, and g j nodes in bucket j, at most two; held is their sum -/
def i_Rel (k : Nat) (u : SX) (v : SY) : Prop := ∃ (c : Nat) (a : Nat → Int32) (g : Nat → Nat), u = dq_st c a g ∧ v = dq_st c a g ∧ c ≤ k ∧ ∀ j, g j ≤ 2
theorem i_up {k : Nat} {u : SX} {v : SY} (h : i_Rel k u v) : i_Rel (k + 3) u v := by
  obtain ⟨c, a, g, hu, hv, hc, hg⟩ := h
  exact ⟨c, a, g, hu, hv, by omega, hg⟩
theorem i_vc0 : wpX_init (fun u => wpY_init (fun v => i_Rel 0 u v)) :=
  ⟨0, fun _ => 0, fun _ => 0, rfl, rfl, Nat.le_refl 0, fun _ => Nat.zero_le 2⟩
theorem i_vc_add {k : Nat} {u : SX} {v : SY} (I : i_Rel k u v) (hk : k + 3 ≤ 1536) (v1 : Int32) (v2 : Int32) : wpX_add (fun r u' => wpY_add (fun r' v' => r' = r ∧ i_Rel (k + 3) u' v') v v1 v2) u v1 v2 := by
  have J := i_up I
  obtain ⟨c, a, g, rfl, rfl, hc, hg⟩ := I
  by_cases h0 : nI c ≤ v2
  · have h0' : ¬ v2 < 0 := Int32.not_lt.mpr (Int32.le_trans (nI_pos' (by omega)) h0)
    obtain ⟨d, hd, rfl⟩ := nI_of h0'
    have hcd : c ≤ d := (nI_leI (by omega) hd).mp h0
    by_cases h3 : d ≤ c + 3
    · by_cases h2 : g (d % 4) < 2
      · have hs := dq_sum (g := g) (b := d % 4) (g (d % 4) + 1) (by omega)
        refine dq_xadd hcd hd h3 rfl (m := g (d % 4)) rfl h2 (dq_yadd hcd hd h3 rfl (m := g (d % 4)) rfl h2 ⟨rfl, c, upd a (d % 4 * 2 + g (d % 4)) v1, dq_pt g (d % 4) (g (d % 4) + 1), ?_, ?_, by omega, dq_le2 hg (by omega)⟩)
        · unfold dq_st
          rw [dq_upd, nI_1, show dq_sm (dq_pt g (d % 4) (g (d % 4) + 1)) = dq_sm g + 1 by omega]
        · unfold dq_st
          rw [dq_upd, nI_1, show dq_sm (dq_pt g (d % 4) (g (d % 4) + 1)) = dq_sm g + 1 by omega]
      · have c3 : nI d - nI c ≤ 3 := by rw [pk_sub hcd]; exact nI_le (b := 3) (by omega) (by decide)
        have hg2 := hg (d % 4)
        have c2 : ¬ nI (g (d % 4)) < 2 := nI_nlt (b := 2) (by omega) (by omega)
        exact dq_xfull h0 c3 hd rfl c2 (dq_yfull h0 c3 hd rfl c2 ⟨rfl, J⟩)
    · have c3 : ¬ nI d - nI c ≤ 3 := by rw [pk_sub hcd]; exact nI_ge (a := 3) (by omega) (by omega)
      exact dq_xfar h0 c3 (dq_yfar h0 c3 ⟨rfl, J⟩)
  · exact dq_xno h0 (dq_yno h0 ⟨rfl, J⟩)
theorem i_vc_popMin {k : Nat} {u : SX} {v : SY} (I : i_Rel k u v) (hk : k + 3 ≤ 1536) : wpX_popMin (fun r u' => wpY_popMin (fun r' v' => r' = r ∧ i_Rel (k + 3) u' v') v) u := by
  have J := i_up I
  obtain ⟨c, a, g, rfl, rfl, hc, hg⟩ := I
  have h8 := dq_sm8 hg
  by_cases h0 : dq_sm g = 0
  · have z : nI (dq_sm g) = 0 := by rw [h0]; rfl
    exact br_t z (br_t z ⟨rfl, J⟩)
  · have z : ¬ nI (dq_sm g) = 0 := nI_ne0 (by omega) (by omega)
    obtain ⟨q, hq, hn, hz⟩ := dq_first c h0
    obtain ⟨m, hm⟩ : ∃ m, g ((c + q) % 4) = m + 1 := ⟨g ((c + q) % 4) - 1, by omega⟩
    have hg2 := hg ((c + q) % 4)
    have hs := dq_sum (g := g) (b := (c + q) % 4) m (by omega)
    have ht : nI (g ((c + q) % 4)) = nI (m + 1) := by rw [hm]
    have hz' : ∀ j, 0 ≤ j → j < q → nI (g ((c + j) % 4)) = 0 := fun j _ hj => by rw [hz j hj]; rfl
    have K : i_Rel (k + 3) (nI (c + q), nI (dq_sm g) - 1, a, upd (fun j => nI (g j)) ((c + q) % 4) (nI m)) (nI (c + q), nI (dq_sm g) - 1, a, upd (fun j => nI (g j)) ((c + q) % 4) (nI m)) := by
      rw [dq_upd, show dq_sm g = dq_sm (dq_pt g ((c + q) % 4) m) + 1 by omega, nI_pred]
      exact ⟨c + q, a, dq_pt g ((c + q) % 4) m, rfl, rfl, by omega, dq_le2 hg (by omega)⟩
    refine br_f z ⟨q + 1, dq_xpop (t := fun j => nI (g j)) (m := m) (by omega) hq rfl ht (by omega) ?_ q 0 (Nat.zero_add q) hz'⟩
    exact br_f z ⟨q + 1, dq_ypop (t := fun j => nI (g j)) (m := m) (by omega) hq rfl ht (by omega) ⟨rfl, K⟩ q 0 (Nat.zero_add q) hz'⟩
theorem i_vc_current {k : Nat} {u : SX} {v : SY} (I : i_Rel k u v) (hk : k + 3 ≤ 1536) : wpX_current (fun r => wpY_current (fun r' => r' = r ∧ i_Rel (k + 3) u v) v) u := by
  have J := i_up I
  obtain ⟨c, a, g, rfl, rfl, hc, hg⟩ := I
  exact ⟨rfl, J⟩
theorem i_vc_size {k : Nat} {u : SX} {v : SY} (I : i_Rel k u v) (hk : k + 3 ≤ 1536) : wpX_size (fun r => wpY_size (fun r' => r' = r ∧ i_Rel (k + 3) u v) v) u := by
  have J := i_up I
  obtain ⟨c, a, g, rfl, rfl, hc, hg⟩ := I
  exact ⟨rfl, J⟩
end
