section
/-! rows taken from kit/rows: stores, masks, division, narrowing -/
theorem pk_us {f : Nat → Int32} {k : Nat} {x : Int32} : upd f k x k = x := if_pos rfl
theorem pk_un {f : Nat → Int32} {k j : Nat} {x : Int32} (h : j ≠ k) : upd f k x j = f j := if_neg h
theorem pk_mul (a b : Nat) : nI a * nI b = nI (a * b) := (Int32.ofNat_mul a b).symm
theorem pk_div {a d : Nat} (ha : a < 2 ^ 31) (h0 : 0 < d) (hd : d < 2 ^ 31) : nI a / nI d = nI (a / d) := by
  apply Int32.toInt_inj.mp
  rw [lg_idiv_nonneg (by rw [nI_toInt ha]; omega) (by rw [nI_toInt hd]; omega), nI_toInt ha, nI_toInt hd, nI_toInt (Nat.lt_of_le_of_lt (Nat.div_le_self a d) ha)]
  first | rfl | exact (Int.natCast_ediv _ _).symm
theorem pk_tn {n : Nat} (h : n < 2 ^ 32) : (nI n).toBitVec.toNat = n := Nat.mod_eq_of_lt h
theorem pk_and (x : Int32) {m : Int32} (k : Nat) (hm : m.toBitVec.toNat = 2 ^ k - 1) : x &&& m = nI (x.toBitVec.toNat % 2 ^ k) := by
  apply Int32.toBitVec_inj.mp
  apply BitVec.eq_of_toNat_eq
  rw [Int32.toBitVec_and, BitVec.toNat_and, hm, Nat.and_two_pow_sub_one_eq_mod]
  show _ = (BitVec.ofNat 32 _).toNat
  rw [BitVec.toNat_ofNat]
  exact (Nat.mod_eq_of_lt (Nat.lt_of_le_of_lt (Nat.mod_le _ _) x.toBitVec.isLt)).symm
theorem pk_andN {n : Nat} (h : n < 2 ^ 32) {m : Int32} (k : Nat) (hm : m.toBitVec.toNat = 2 ^ k - 1) : nI n &&& m = nI (n % 2 ^ k) := by
  rw [pk_and _ k hm, pk_tn h]
theorem pk_andE (x : Int32) {m : Int32} (k : Nat) (hm : m.toBitVec.toNat = 2 ^ k - 1) : ∃ j : Nat, j < 2 ^ k ∧ x &&& m = nI j := ⟨_, Nat.mod_lt _ (Nat.two_pow_pos k), pk_and x k hm⟩
theorem pk_andIn (x : Int32) {m : Int32} (k : Nat) (hm : m.toBitVec.toNat = 2 ^ k - 1) (hk : k ≤ 30) : vp_in (x &&& m) (2 ^ k) := by
  obtain ⟨j, hj, e⟩ := pk_andE x k hm
  rw [e]
  exact vp_in_nI hj (Nat.lt_of_le_of_lt (Nat.pow_le_pow_right (by decide) hk) (by decide))
theorem pk_vb (z : Int32) : vp_nar .byte z.toInt8.toInt32 = z.toInt8.toInt32 := by rw [vp_nar_byte]; simp
theorem pk_vs (z : Int32) : vp_nar .short z.toInt16.toInt32 = z.toInt16.toInt32 := by rw [vp_nar_short]; simp
theorem nx_and (a b : Nat) : nI a &&& nI b = nI (a &&& b) := by
  apply Int32.toBitVec_inj.1
  show BitVec.ofNat 32 a &&& BitVec.ofNat 32 b = BitVec.ofNat 32 (a &&& b)
  apply BitVec.eq_of_getLsbD_eq
  intro i hi
  simp [hi]
theorem bp_b (x : Int32) : x.toInt8.toInt32 &&& 255 = x &&& 255 := by
  apply Int32.toBitVec_inj.mp
  rw [Int32.toBitVec_and, Int32.toBitVec_and, Int8.toBitVec_toInt32, Int32.toBitVec_toInt8]
  apply BitVec.eq_of_getLsbD_eq
  intro i hi
  rw [BitVec.getLsbD_and, BitVec.getLsbD_and]
  have hm : ∀ i < 32, 8 ≤ i → (255 : Int32).toBitVec.getLsbD i = false := by decide
  rcases Nat.lt_or_ge i 8 with z | z
  · rw [BitVec.getLsbD_signExtend, BitVec.getLsbD_signExtend, if_pos z, if_pos hi]
    simp only [z, hi, decide_true, Bool.true_and]
  · rw [hm i hi z]; simp
end
section
/-! the plain laws: masks as remainders, the page by mask and by quotient, a byte and a short under 255 -/
theorem im_i8 (y : Int32) : vp_in (y &&& 255) 65536 := by
  obtain ⟨j, hj, e⟩ := pk_andE y (m := 255) 8 (by decide)
  rw [e]
  exact vp_in_nI (by omega) (by omega)
theorem im_i16 (y : Int32) : vp_in (y &&& 65535) 65536 := by
  obtain ⟨j, hj, e⟩ := pk_andE y (m := 65535) 16 (by decide)
  rw [e]
  exact vp_in_nI (by omega) (by omega)
/-- the next zero page cell, with or without the mask below -/
theorem im_nx (x : Int32) : ((x &&& 255) + 1) &&& 255 = (x + 1) &&& 255 := by
  rw [pk_and ((x &&& 255) + 1) (m := 255) 8 (by decide), pk_and (x + 1) (m := 255) 8 (by decide)]
  have e1 : ((x &&& 255) + 1).toBitVec.toNat = ((x.toBitVec.toNat % 2 ^ 8) + 1) % 2 ^ 32 := by
    have h : (255 : Int32).toBitVec.toNat = 2 ^ 8 - 1 := by decide
    rw [Int32.toBitVec_add, BitVec.toNat_add, Int32.toBitVec_and, BitVec.toNat_and, h, Nat.and_two_pow_sub_one_eq_mod]
    rfl
  have e2 : (x + 1).toBitVec.toNat = (x.toBitVec.toNat + 1) % 2 ^ 32 := by
    rw [Int32.toBitVec_add, BitVec.toNat_add]
    rfl
  rw [e1, e2]
  exact congrArg nI (by omega)
theorem im_hi {m : Nat} (h : m < 65536) : nI m &&& 65280 = nI (256 * (m / 256)) := by
  have e : (65280 : Int32) = nI 65280 := rfl
  rw [e, nx_and]
  refine congrArg nI ?_
  have h1 : (m &&& 65280) / 2 ^ 8 = m / 2 ^ 8 := by
    rw [Nat.and_div_two_pow]
    show m / 2 ^ 8 &&& 2 ^ 8 - 1 = _
    rw [Nat.and_two_pow_sub_one_eq_mod]
    omega
  have h2 : (m &&& 65280) % 2 ^ 8 = 0 := by
    rw [Nat.and_mod_two_pow]
    exact Nat.and_zero _
  omega
theorem im_pg {m n : Nat} (hm : m < 65536) (hn : n < 65536) : nI m &&& 65280 = nI n &&& 65280 ↔ nI m / 256 = nI n / 256 := by
  have e : (256 : Int32) = nI 256 := rfl
  rw [im_hi hm, im_hi hn, e, pk_div (by omega) (by omega) (by omega), pk_div (by omega) (by omega) (by omega), nI_eq (by omega) (by omega), nI_eq (by omega) (by omega)]
  omega
/-- the page is crossed by the mask just when it is by the quotient -/
theorem im_pg2 {s : Int32} (hs : ∃ m : Nat, m < 65536 ∧ s = nI m) (t : Int32) : (t &&& 65535) &&& 65280 = s &&& 65280 ↔ (t &&& 65535) / 256 = s / 256 := by
  obtain ⟨m, hm, rfl⟩ := hs
  obtain ⟨e, he, ee⟩ := pk_andE t (m := 65535) 16 (by decide)
  rw [ee]
  exact im_pg he hm
theorem im_ms (t : Int32) : ∃ m : Nat, m < 65536 ∧ t &&& 65535 = nI m := by
  obtain ⟨e, he, ee⟩ := pk_andE t (m := 65535) 16 (by decide)
  exact ⟨e, he, ee⟩
theorem im_wd (h l : Int32) : ∃ m : Nat, m < 65536 ∧ (h &&& 255) * 256 + (l &&& 255) = nI m := by
  obtain ⟨a, ha, ea⟩ := pk_andE h (m := 255) 8 (by decide)
  obtain ⟨b, hb, eb⟩ := pk_andE l (m := 255) 8 (by decide)
  refine ⟨a * 256 + b, by omega, ?_⟩
  rw [ea, eb, show (256 : Int32) = nI 256 from rfl, pk_mul, nI_add]
theorem im_s (x : Int32) : x.toInt16.toInt32 &&& 255 = x &&& 255 := by
  apply Int32.toBitVec_inj.mp
  rw [Int32.toBitVec_and, Int32.toBitVec_and, Int16.toBitVec_toInt32, Int32.toBitVec_toInt16]
  apply BitVec.eq_of_getLsbD_eq
  intro i hi
  rw [BitVec.getLsbD_and, BitVec.getLsbD_and]
  have hm : ∀ i < 32, 8 ≤ i → (255 : Int32).toBitVec.getLsbD i = false := by decide
  rcases Nat.lt_or_ge i 8 with z | z
  · have z2 : i < 16 := by omega
    rw [BitVec.getLsbD_signExtend, BitVec.getLsbD_signExtend, if_pos z2, if_pos hi]
    simp only [z2, hi, decide_true, Bool.true_and]
  · rw [hm i hi z]; simp
/-- what poke stores, a byte on one side and a short on the other, reads alike under 255 -/
theorem im_st (p : Int32) : vp_nar .byte ((p &&& 255).toInt8.toInt32) &&& 255 = vp_nar .short p.toInt16.toInt32 &&& 255 := by
  rw [pk_vb, pk_vs, bp_b, im_s, Int32.and_assoc, Int32.and_self]
theorem im_up {a b : Nat → Int32} (h : ∀ j, a j &&& 255 = b j &&& 255) (k : Nat) {v w : Int32} (e : v &&& 255 = w &&& 255) (j : Nat) : upd a k v j &&& 255 = upd b k w j &&& 255 := by
  by_cases z : j = k
  · rw [z, pk_us, pk_us]; exact e
  · rw [pk_un z, pk_un z]; exact h j
theorem im_cl : (65536 : Int32).toNatClampNeg = 65536 := nI_clamp (n := 65536) (by omega)
end
section
/-- the registers and the flag alike, the flag 0 or 1, both memories of 65536 cells, alike under 255 -/
def i_Rel (_ : Nat) (u : SX) (v : SY) : Prop := ∃ (x y p : Int32) (a b : Nat → Int32), u = (x, y, p, a, 65536) ∧ v = (x, y, p, b, 65536) ∧ (p = 0 ∨ p = 1) ∧ ∀ j, a j &&& 255 = b j &&& 255
theorem im_rel {k : Nat} {x y p : Int32} {a b : Nat → Int32} (hp : p = 0 ∨ p = 1) (h : ∀ j, a j &&& 255 = b j &&& 255) : i_Rel k (x, y, p, a, 65536) (x, y, p, b, 65536) := ⟨x, y, p, a, b, rfl, rfl, hp, h⟩
theorem im_yadd {post : Int32 → SY → Prop} {x y q : Int32} {b : Nat → Int32} {n : Nat} {s r : Int32} (h0 : ((s + r) &&& 65535) / 256 = s / 256 → post ((s + r) &&& 65535) (x, y, 0, b, n)) (h1 : ¬ ((s + r) &&& 65535) / 256 = s / 256 → post ((s + r) &&& 65535) (x, y, 1, b, n)) : wpY_add post (x, y, q, b, n) s r := by
  unfold wpY_add
  dsimp only
  exact nm_e ⟨by decide, by decide, h0, h1⟩
theorem im_yword {post : Int32 → Prop} {x y q : Int32} {b : Nat → Int32} {p : Int32} (h : post (((b ((p + 1) &&& 255).toNatClampNeg &&& 255) * 256) + (b (p &&& 255).toNatClampNeg &&& 255))) : wpY_word post (x, y, q, b, 65536) p := by
  unfold wpY_word
  dsimp only
  exact ⟨im_i8 _, im_i8 _, h⟩
theorem i_up {k : Nat} {u : SX} {v : SY} (h : i_Rel k u v) : i_Rel (k + 3) u v := h
theorem i_vc0 : wpX_init (fun u => wpY_init (fun v => i_Rel 0 u v)) := by
  unfold wpX_init wpY_init
  refine ⟨by decide, nm_r im_cl ⟨Nat.le_refl _, by decide, nm_r im_cl ⟨Nat.le_refl _, ?_⟩⟩⟩
  exact im_rel (Or.inl rfl) (fun _ => rfl)
theorem i_vc_regs {k : Nat} {u : SX} {v : SY} (I : i_Rel k u v) (hk : k + 3 ≤ 1536) (v1 : Int32) (v2 : Int32) : wpX_regs (fun u' => wpY_regs (fun v' => i_Rel (k + 3) u' v') v v1 v2) u v1 v2 := by
  obtain ⟨x, y, p, a, b, rfl, rfl, hp, h⟩ := I
  unfold wpX_regs wpY_regs
  dsimp only
  exact nm_e (nm_e (nm_e (nm_e (im_rel hp h))))
theorem i_vc_poke {k : Nat} {u : SX} {v : SY} (I : i_Rel k u v) (hk : k + 3 ≤ 1536) (v1 : Int32) (v2 : Int32) : wpX_poke (fun r u' => wpY_poke (fun r' v' => r' = r ∧ i_Rel (k + 3) u' v') v v1 v2) u v1 v2 := by
  obtain ⟨x, y, p, a, b, rfl, rfl, hp, h⟩ := I
  unfold wpX_poke wpY_poke
  dsimp only
  refine nm_e ⟨im_i16 _, nm_e ⟨im_i16 _, nm_e ?_⟩⟩
  refine nm_e ⟨im_i16 _, nm_e ⟨im_i16 _, nm_e ?_⟩⟩
  exact ⟨(h _).symm, im_rel hp (im_up h _ (im_st v2))⟩
theorem i_vc_absX {k : Nat} {u : SX} {v : SY} (I : i_Rel k u v) (hk : k + 3 ≤ 1536) (v1 : Int32) : wpX_absX (fun r u' => wpY_absX (fun r' v' => r' = r ∧ i_Rel (k + 3) u' v') v v1) u v1 := by
  obtain ⟨x, y, p, a, b, rfl, rfl, hp, h⟩ := I
  unfold wpX_absX wpY_absX
  dsimp only
  have e := im_pg2 (im_ms v1) ((v1 &&& 65535) + x)
  refine nm_e (nm_e (br_c (fun c => ?_) (fun c => ?_)))
  · exact im_yadd (fun _ => ⟨rfl, im_rel (Or.inl rfl) h⟩) (fun d => absurd (e.mp c) d)
  · exact im_yadd (fun d => absurd (e.mpr d) c) (fun _ => ⟨rfl, im_rel (Or.inr rfl) h⟩)
theorem i_vc_indX {k : Nat} {u : SX} {v : SY} (I : i_Rel k u v) (hk : k + 3 ≤ 1536) (v1 : Int32) : wpX_indX (fun r u' => wpY_indX (fun r' v' => r' = r ∧ i_Rel (k + 3) u' v') v v1) u v1 := by
  obtain ⟨x, y, p, a, b, rfl, rfl, hp, h⟩ := I
  unfold wpX_indX wpY_indX
  dsimp only
  refine nm_e ⟨im_i8 _, nm_e ⟨im_i8 _, nm_e ?_⟩⟩
  refine im_yword ⟨?_, im_rel (Or.inl rfl) h⟩
  rw [im_nx, h, h]
theorem i_vc_indY {k : Nat} {u : SX} {v : SY} (I : i_Rel k u v) (hk : k + 3 ≤ 1536) (v1 : Int32) : wpX_indY (fun r u' => wpY_indY (fun r' v' => r' = r ∧ i_Rel (k + 3) u' v') v v1) u v1 := by
  obtain ⟨x, y, p, a, b, rfl, rfl, hp, h⟩ := I
  unfold wpX_indY wpY_indY
  dsimp only
  refine nm_e ⟨im_i8 _, nm_r (h _) ⟨im_i8 _, ?_⟩⟩
  rw [im_nx]
  refine nm_r (h _) (nm_e (nm_e ?_))
  have e := im_pg2 (im_wd (b ((v1 + 1) &&& 255).toNatClampNeg) (b (v1 &&& 255).toNatClampNeg)) (((b ((v1 + 1) &&& 255).toNatClampNeg &&& 255) * 256) + (b (v1 &&& 255).toNatClampNeg &&& 255) + y)
  refine br_c (fun c => im_yword ?_) (fun c => im_yword ?_)
  · exact im_yadd (fun _ => ⟨rfl, im_rel (Or.inl rfl) h⟩) (fun d => absurd (e.mp c) d)
  · exact im_yadd (fun d => absurd (e.mpr d) c) (fun _ => ⟨rfl, im_rel (Or.inr rfl) h⟩)
theorem i_vc_penalty {k : Nat} {u : SX} {v : SY} (I : i_Rel k u v) (hk : k + 3 ≤ 1536) : wpX_penalty (fun r => wpY_penalty (fun r' => r' = r ∧ i_Rel (k + 3) u v) v) u := by
  obtain ⟨x, y, p, a, b, rfl, rfl, hp, h⟩ := I
  have hn : narrow .boolean (.int p) = .int p := by
    rcases hp with rfl | rfl
    · rfl
    · rfl
  unfold wpX_penalty wpY_penalty
  dsimp only
  exact ⟨hn, hn, rfl, im_rel hp h⟩
end
