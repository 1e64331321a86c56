section
theorem pk_us {f : Nat → Int32} {k : Nat} {x : Int32} : upd f k x k = x := if_pos rfl
theorem pk_un {f : Nat → Int32} {k j : Nat} {x : Int32} (h : j ≠ k) : upd f k x j = f j := if_neg h
theorem pk_mul (a b : Nat) : nI a * nI b = nI (a * b) := (Int32.ofNat_mul a b).symm
theorem pk_in {x : Int32} (n N : Nat) (h : n < N) (hx : x = nI n := by rfl) (hN : N < 2 ^ 31 := by omega) : vp_in x N := by
  subst hx
  exact vp_in_nI h hN
theorem pk_vb (z : Int32) : vp_nar .byte z.toInt8.toInt32 = z.toInt8.toInt32 := by rw [vp_nar_byte]; simp
theorem pk_vs (z : Int32) : vp_nar .short z.toInt16.toInt32 = z.toInt16.toInt32 := by rw [vp_nar_short]; simp
/-- the way's bit for the node at depth t -/
def tp_d (w t : Int32) : Int32 := (w >>> ((2 - t) &&& 31)) &&& 1
/-- the component's byte after the node p is pointed away from the side d -/
def tp_st (b p d : Int32) : Int32 := if d = 0 then b ||| ((1 : Int32) <<< (p &&& 31)) else b &&& (((1 : Int32) <<< (p &&& 31)) ^^^ (-1))
/-- the child of node p on the side d -/
def tp_nx (p d : Int32) : Int32 := ((2 * p) + 1) + d
/-- what the component's touch computes -/
def tp_T (b w : Int32) : Int32 :=
  tp_st (tp_st (tp_st b 0 (tp_d w 0)) (tp_nx 0 (tp_d w 0)) (tp_d w 1)) (tp_nx (tp_nx 0 (tp_d w 0)) (tp_d w 1)) (tp_d w 2) &&& 127
/-- the node's bit -/
def tp_b (b p : Int32) : Int32 := (b >>> (p &&& 31)) &&& 1
def tp_vn (b p : Int32) : Int32 := tp_nx p (tp_b b p)
/-- what the component's victim computes -/
def tp_V (b : Int32) : Int32 := tp_vn b (tp_vn b (tp_vn b 0)) - 7
/-- what the reference's bits computes of seven cells -/
def tp_or (g : Nat → Int32) : Int32 :=
  ((((((g 0) ||| ((g 1) <<< ((1 : Int32) &&& 31))) ||| ((g 2) <<< ((2 : Int32) &&& 31))) ||| ((g 3) <<< ((3 : Int32) &&& 31))) ||| ((g 4) <<< ((4 : Int32) &&& 31))) ||| ((g 5) <<< ((5 : Int32) &&& 31))) ||| ((g 6) <<< ((6 : Int32) &&& 31))
/-- node j behind a touch of way w, as a number -/
def tp_c (m w j : Nat) : Nat := if j = 3 + 2 * (w / 4) + w / 2 % 2 then 1 - w % 2 else if j = 1 + w / 4 then 1 - w / 2 % 2 else if j = 0 then 1 - w / 4 else m / 2 ^ j % 2
/-- the byte behind a touch of way w, as a number -/
def tp_P (m w : Nat) : Nat := tp_c m w 0 + 2 * tp_c m w 1 + 4 * tp_c m w 2 + 8 * tp_c m w 3 + 16 * tp_c m w 4 + 32 * tp_c m w 5 + 64 * tp_c m w 6
theorem tp_c2 (m w j : Nat) : tp_c m w j < 2 := by
  unfold tp_c
  repeat' split
  all_goals omega
theorem tp_Plt (m w : Nat) : tp_P m w < 128 := by
  have h0 := tp_c2 m w 0
  have h1 := tp_c2 m w 1
  have h2 := tp_c2 m w 2
  have h3 := tp_c2 m w 3
  have h4 := tp_c2 m w 4
  have h5 := tp_c2 m w 5
  have h6 := tp_c2 m w 6
  unfold tp_P
  omega
theorem tp_Pb (m w : Nat) {j : Nat} (hj : j < 7) : tp_P m w / 2 ^ j % 2 = tp_c m w j := by
  have h0 := tp_c2 m w 0
  have h1 := tp_c2 m w 1
  have h2 := tp_c2 m w 2
  have h3 := tp_c2 m w 3
  have h4 := tp_c2 m w 4
  have h5 := tp_c2 m w 5
  have h6 := tp_c2 m w 6
  unfold tp_P
  rcases j with _ | _ | _ | _ | _ | _ | _ | j
  · show _ / 1 % 2 = tp_c m w 0; omega
  · show _ / 2 % 2 = tp_c m w 1; omega
  · show _ / 4 % 2 = tp_c m w 2; omega
  · show _ / 8 % 2 = tp_c m w 3; omega
  · show _ / 16 % 2 = tp_c m w 4; omega
  · show _ / 32 % 2 = tp_c m w 5; omega
  · show _ / 64 % 2 = tp_c m w 6; omega
  · omega
theorem tp_T_eq : ∀ m, m < 128 → ∀ w, w < 8 → tp_T (nI m) (nI w) = nI (tp_P m w) := by decide +kernel
theorem tp_or_eq : ∀ m, m < 128 → tp_or (fun j => nI (m / 2 ^ j % 2)) = nI m := by decide +kernel
theorem tp_V_eq : ∀ m, m < 128 → tp_V (nI m) = nI (4 * (m % 2) + 2 * (m / 2 ^ (1 + m % 2) % 2) + m / 2 ^ (3 + 2 * (m % 2) + m / 2 ^ (1 + m % 2) % 2) % 2) := by decide +kernel
theorem tp_127 : ∀ m, m < 128 → nI m &&& 127 = nI m := by decide +kernel
theorem tp_i8 : ∀ m, m < 128 → (nI m).toInt8.toInt32 = nI m := by decide +kernel
theorem tp_byte {m : Nat} (h : m < 128) : vp_nar .byte (nI m).toInt8.toInt32 = nI m := by rw [pk_vb]; exact tp_i8 m h
theorem tp_i16 : ∀ d, d < 2 → (1 - nI d).toInt16.toInt32 = nI (1 - d) := by decide +kernel
theorem tp_short {d : Nat} (h : d < 2) : vp_nar .short ((1 - nI d).toInt16.toInt32) = nI (1 - d) := by rw [pk_vs]; exact tp_i16 d h
theorem tp_w2 : ∀ w, w < 8 → nI w >>> ((2 : Int32) &&& 31) = nI (w / 4) := by decide +kernel
theorem tp_w1 : ∀ w, w < 8 → (nI w >>> ((1 : Int32) &&& 31)) &&& 1 = nI (w / 2 % 2) := by decide +kernel
theorem tp_w0 : ∀ w, w < 8 → nI w &&& 1 = nI (w % 2) := by decide +kernel
theorem tp_7 (s : Nat) : nI s * 7 = nI (7 * s) := by
  rw [Nat.mul_comm]
  exact pk_mul s 7
end
section
theorem tp_xs {post : Int32 → SX → Prop} {x1 x2 c : Int32} {a : Nat → Int32} {n : Nat} {b p t t' : Int32} (ht : ¬ 3 ≤ t) (e : t + 1 = t') (h : wX_touch_43 post x1 x2 c a n (tp_st b p (tp_d x2 t)) (tp_nx p (tp_d x2 t)) t') : wX_touch_43 post x1 x2 c a (n + 1) b p t := by
  refine br_f ht ?_
  refine nm_r (e' := tp_d x2 t) rfl ?_
  by_cases z : tp_d x2 t = 0
  · refine br_t z ?_
    refine nm_r (e' := tp_st b p (tp_d x2 t)) (by rw [tp_st, if_pos z]) ?_
    refine nm_r (e' := tp_nx p (tp_d x2 t)) rfl ?_
    exact nm_r e h
  · refine br_f z ?_
    refine nm_r (e' := tp_st b p (tp_d x2 t)) (by rw [tp_st, if_neg z]) ?_
    refine nm_r (e' := tp_nx p (tp_d x2 t)) rfl ?_
    exact nm_r e h
theorem tp_xe {post : Int32 → SX → Prop} {x1 x2 c : Int32} {a : Nat → Int32} {n : Nat} {b p : Int32} (hi : vp_in x1 4) (h : post (b &&& 127) (c, upd a x1.toNatClampNeg (vp_nar .byte (b &&& 127).toInt8.toInt32))) : wX_touch_43 post x1 x2 c a (n + 1) b p 3 :=
  br_t (by decide) (nm_e ⟨hi, nm_e h⟩)
/-- the component's touch, where it stores -/
theorem tp_x {post : Int32 → SX → Prop} {c s w m : Nat} {a : Nat → Int32} (hs : s < c) (hc : c ≤ 4) (hw : w < 8) (hm : m < 128) (ha : a s = nI m) (h : post (nI (tp_P m w)) (nI c, upd a s (nI (tp_P m w)))) : wpX_touch post (nI c, a) (nI s) (nI w) := by
  have hi : vp_in (nI s) 4 := vp_in_nI (by omega) (by omega)
  have hcl : (nI s).toNatClampNeg = s := nI_clamp (by omega)
  refine br_f (nI_pos (by omega)) ?_
  refine br_t (nI_lt hs (by omega)) ?_
  refine br_f (nI_pos (by omega)) ?_
  refine br_t (nI_le (b := 7) (by omega) (by omega)) ?_
  refine ⟨hi, ?_⟩
  refine nm_r (e' := nI m) (by rw [hcl, ha]; exact tp_127 m hm) ?_
  refine ⟨4, ?_⟩
  refine tp_xs (t' := 1) (by decide) (by decide) ?_
  refine tp_xs (t' := 2) (by decide) (by decide) ?_
  refine tp_xs (t' := 3) (by decide) (by decide) ?_
  refine tp_xe hi ?_
  have eT : tp_st (tp_st (tp_st (nI m) 0 (tp_d (nI w) 0)) (tp_nx 0 (tp_d (nI w) 0)) (tp_d (nI w) 1)) (tp_nx (tp_nx 0 (tp_d (nI w) 0)) (tp_d (nI w) 1)) (tp_d (nI w) 2) &&& 127 = nI (tp_P m w) := tp_T_eq m hm w hw
  rw [eT, hcl, tp_byte (tp_Plt m w)]
  exact h
theorem tp_vs {post : Int32 → Prop} {b c : Int32} {a : Nat → Int32} {n : Nat} {p t t' : Int32} (ht : ¬ 3 ≤ t) (e : t + 1 = t') (h : wX_victim_29 post b c a n (tp_vn b p) t') : wX_victim_29 post b c a (n + 1) p t := by
  refine br_f ht ?_
  refine nm_r (e' := tp_vn b p) rfl ?_
  exact nm_r e h
theorem tp_xv {post : Int32 → Prop} {c s m : Nat} {a : Nat → Int32} (hs : s < c) (hc : c ≤ 4) (hm : m < 128) (ha : a s = nI m) (h : post (tp_V (nI m))) : wpX_victim post (nI c, a) (nI s) := by
  have hi : vp_in (nI s) 4 := vp_in_nI (by omega) (by omega)
  have hcl : (nI s).toNatClampNeg = s := nI_clamp (by omega)
  refine br_f (nI_pos (by omega)) ?_
  refine br_t (nI_lt hs (by omega)) ?_
  refine ⟨hi, ?_⟩
  refine nm_r (e' := nI m) (by rw [hcl, ha]; exact tp_127 m hm) ?_
  refine ⟨4, ?_⟩
  refine tp_vs (t' := 1) (by decide) (by decide) ?_
  refine tp_vs (t' := 2) (by decide) (by decide) ?_
  refine tp_vs (t' := 3) (by decide) (by decide) ?_
  exact br_t (by decide) h
theorem tp_xb {post : Int32 → Prop} {c s m : Nat} {a : Nat → Int32} (hs : s < c) (hc : c ≤ 4) (hm : m < 128) (ha : a s = nI m) (h : post (nI m)) : wpX_bits post (nI c, a) (nI s) := by
  have hi : vp_in (nI s) 4 := vp_in_nI (by omega) (by omega)
  have hcl : (nI s).toNatClampNeg = s := nI_clamp (by omega)
  refine br_f (nI_pos (by omega)) ?_
  refine br_t (nI_lt hs (by omega)) ?_
  refine ⟨hi, ?_⟩
  rw [hcl, ha, tp_127 m hm]
  exact h
end
section
theorem tp_yb {post : Int32 → Prop} {c s m : Nat} {f : Nat → Int32} (hs : s < c) (hc : c ≤ 4) (hm : m < 128) (hf : ∀ j, j < 7 → f (7 * s + j) = nI (m / 2 ^ j % 2)) (h : post (nI m)) : wpY_bits post (nI c, f) (nI s) := by
  have e1 : nI (7 * s) + 1 = nI (7 * s + 1) := nI_add _ 1
  have e2 : nI (7 * s) + 2 = nI (7 * s + 2) := nI_add _ 2
  have e3 : nI (7 * s) + 3 = nI (7 * s + 3) := nI_add _ 3
  have e4 : nI (7 * s) + 4 = nI (7 * s + 4) := nI_add _ 4
  have e5 : nI (7 * s) + 5 = nI (7 * s + 5) := nI_add _ 5
  have e6 : nI (7 * s) + 6 = nI (7 * s + 6) := nI_add _ 6
  have k : ∀ j, j < 7 → f (nI (7 * s + j)).toNatClampNeg = nI (m / 2 ^ j % 2) := by
    intro j hj
    rw [nI_clamp (by omega)]
    exact hf j hj
  refine br_f (nI_pos (by omega)) ?_
  refine br_t (nI_lt hs (by omega)) ?_
  refine nm_r (e' := nI (7 * s)) (tp_7 s) ?_
  refine ⟨pk_in (7 * s) 28 (by omega), pk_in (7 * s + 1) 28 (by omega) e1, pk_in (7 * s + 2) 28 (by omega) e2, pk_in (7 * s + 3) 28 (by omega) e3, pk_in (7 * s + 4) 28 (by omega) e4, pk_in (7 * s + 5) 28 (by omega) e5, pk_in (7 * s + 6) 28 (by omega) e6, ?_⟩
  have k0 : f (nI (7 * s)).toNatClampNeg = nI (m / 2 ^ 0 % 2) := k 0 (by omega)
  have E : tp_or (fun j => nI (m / 2 ^ j % 2)) = nI m := tp_or_eq m hm
  rw [e1, e2, e3, e4, e5, e6, k0, k 1 (by omega), k 2 (by omega), k 3 (by omega), k 4 (by omega), k 5 (by omega), k 6 (by omega)]
  unfold tp_or at E
  dsimp only at E
  rw [E]
  exact h
theorem tp_yv {post : Int32 → Prop} {c s m : Nat} {f : Nat → Int32} (hs : s < c) (hc : c ≤ 4) (hm : m < 128) (hf : ∀ j, j < 7 → f (7 * s + j) = nI (m / 2 ^ j % 2)) (h : post (tp_V (nI m))) : wpY_victim post (nI c, f) (nI s) := by
  have k : ∀ j, j < 7 → f (nI (7 * s + j)).toNatClampNeg = nI (m / 2 ^ j % 2) := by
    intro j hj
    rw [nI_clamp (by omega)]
    exact hf j hj
  have k0 : f (nI (7 * s)).toNatClampNeg = nI (m % 2) := by
    have z := k 0 (by omega)
    rw [Nat.pow_zero, Nat.div_one] at z
    exact z
  have hV := tp_V_eq m hm
  rw [hV] at h
  have ha : m % 2 < 2 := by omega
  generalize m % 2 = x at *
  have kb := k (1 + x) (by omega)
  have hb : m / 2 ^ (1 + x) % 2 < 2 := by omega
  generalize m / 2 ^ (1 + x) % 2 = y at *
  have kc := k (3 + 2 * x + y) (by omega)
  generalize m / 2 ^ (3 + 2 * x + y) % 2 = z at *
  have e1 : (nI (7 * s) + 1) + nI x = nI (7 * s + (1 + x)) := by
    rw [nI_1, nI_add, Nat.add_assoc]
  have e2 : ((nI (7 * s) + 3) + (2 * nI x)) + nI y = nI (7 * s + (3 + 2 * x + y)) := by
    have p : (2 : Int32) * nI x = nI (2 * x) := pk_mul 2 x
    have q : nI (7 * s) + 3 = nI (7 * s + 3) := nI_add _ 3
    rw [p, q, nI_add, nI_add]
    exact congrArg nI (by omega)
  have e3 : ((4 * nI x) + (2 * nI y)) + nI z = nI (4 * x + 2 * y + z) := by
    have p : (4 : Int32) * nI x = nI (4 * x) := pk_mul 4 x
    have q : (2 : Int32) * nI y = nI (2 * y) := pk_mul 2 y
    rw [p, q, nI_add, nI_add]
  refine br_f (nI_pos (by omega)) ?_
  refine br_t (nI_lt hs (by omega)) ?_
  refine nm_r (e' := nI (7 * s)) (tp_7 s) ?_
  refine ⟨pk_in (7 * s) 28 (by omega), ?_⟩
  refine nm_r (e' := nI x) k0 ?_
  refine ⟨pk_in (7 * s + (1 + x)) 28 (by omega) e1, ?_⟩
  refine nm_r (e' := nI y) (by rw [e1]; exact kb) ?_
  refine ⟨pk_in (7 * s + (3 + 2 * x + y)) 28 (by omega) e2, ?_⟩
  refine nm_r (e' := nI z) (by rw [e2]; exact kc) ?_
  rw [e3]
  exact h
/-- the reference's cells behind a touch -/
def tp_U (f : Nat → Int32) (s w : Nat) : Nat → Int32 := upd (upd (upd f (7 * s) (nI (1 - w / 4))) (7 * s + (1 + w / 4)) (nI (1 - w / 2 % 2))) (7 * s + (3 + 2 * (w / 4) + w / 2 % 2)) (nI (1 - w % 2))
theorem tp_Us {f : Nat → Int32} {s w m : Nat} (hf : ∀ j, j < 7 → f (7 * s + j) = nI (m / 2 ^ j % 2)) : ∀ j, j < 7 → tp_U f s w (7 * s + j) = nI (tp_P m w / 2 ^ j % 2) := by
  intro j hj
  rw [tp_Pb m w hj]
  unfold tp_U tp_c
  by_cases h3 : j = 3 + 2 * (w / 4) + w / 2 % 2
  · rw [if_pos h3, h3]
    exact pk_us
  · rw [if_neg h3, pk_un (by omega)]
    by_cases h1 : j = 1 + w / 4
    · rw [if_pos h1, h1]
      exact pk_us
    · rw [if_neg h1, pk_un (by omega)]
      by_cases h0 : j = 0
      · rw [if_pos h0, h0]
        exact pk_us
      · rw [if_neg h0, pk_un (by omega)]
        exact hf j hj
theorem tp_Un {f : Nat → Int32} {s w q j : Nat} (hw : w < 8) (hq : q ≠ s) (hj : j < 7) : tp_U f s w (7 * q + j) = f (7 * q + j) := by
  unfold tp_U
  rw [pk_un (by omega), pk_un (by omega), pk_un (by omega)]
theorem tp_y {post : Int32 → SY → Prop} {c s w m : Nat} {f : Nat → Int32} (hs : s < c) (hc : c ≤ 4) (hw : w < 8) (hf : ∀ j, j < 7 → f (7 * s + j) = nI (m / 2 ^ j % 2)) (h : post (nI (tp_P m w)) (nI c, tp_U f s w)) : wpY_touch post (nI c, f) (nI s) (nI w) := by
  have e1 : (nI (7 * s) + 1) + nI (w / 4) = nI (7 * s + (1 + w / 4)) := by
    rw [nI_1, nI_add, Nat.add_assoc]
  have e2 : ((nI (7 * s) + 3) + (2 * nI (w / 4))) + nI (w / 2 % 2) = nI (7 * s + (3 + 2 * (w / 4) + w / 2 % 2)) := by
    have p : (2 : Int32) * nI (w / 4) = nI (2 * (w / 4)) := pk_mul 2 (w / 4)
    have q : nI (7 * s) + 3 = nI (7 * s + 3) := nI_add _ 3
    rw [p, q, nI_add, nI_add]
    exact congrArg nI (by omega)
  refine br_f (nI_pos (by omega)) ?_
  refine br_t (nI_lt hs (by omega)) ?_
  refine br_f (nI_pos (by omega)) ?_
  refine br_t (nI_le (b := 7) (by omega) (by omega)) ?_
  refine nm_r (e' := nI (7 * s)) (tp_7 s) ?_
  refine nm_r (e' := nI (w / 4)) (tp_w2 w hw) ?_
  refine nm_r (e' := nI (w / 2 % 2)) (tp_w1 w hw) ?_
  refine nm_r (e' := nI (w % 2)) (tp_w0 w hw) ?_
  refine ⟨pk_in (7 * s) 28 (by omega), ?_⟩
  refine nm_r (e' := upd f (7 * s) (nI (1 - w / 4))) (by rw [nI_clamp (by omega), tp_short (by omega)]) ?_
  refine ⟨pk_in (7 * s + (1 + w / 4)) 28 (by omega) e1, ?_⟩
  refine nm_r (e' := upd (upd f (7 * s) (nI (1 - w / 4))) (7 * s + (1 + w / 4)) (nI (1 - w / 2 % 2))) (by rw [e1, nI_clamp (by omega), tp_short (by omega)]) ?_
  refine ⟨pk_in (7 * s + (3 + 2 * (w / 4) + w / 2 % 2)) 28 (by omega) e2, ?_⟩
  refine nm_r (e' := tp_U f s w) (by rw [e2, nI_clamp (by omega), tp_short (by omega)]; exact rfl) ?_
  exact tp_yb hs hc (tp_Plt m w) (tp_Us hf) h
end
section
/-- each set's byte m, as the component's byte and as the reference's seven cells -/
def tp_R (m : Nat → Nat) (a f : Nat → Int32) : Prop := ∀ s, s < 4 → m s < 128 ∧ a s = nI (m s) ∧ ∀ j, j < 7 → f (7 * s + j) = nI (m s / 2 ^ j % 2)
/-- the relation at the head of a turn whose first cell is k: (u : SX) is (f_count, a_state), (v : SY) is (f_n, a_cell) -/
def i_Rel (k : Nat) (u : SX) (v : SY) : Prop := ∃ (c : Nat) (m : Nat → Nat) (a f : Nat → Int32), u = (nI c, a) ∧ v = (nI c, f) ∧ c ≤ 4 ∧ tp_R m a f
theorem i_up {k : Nat} {u : SX} {v : SY} (h : i_Rel k u v) : i_Rel (k + 3) u v := h
theorem tp_R0 : tp_R (fun _ => 0) (fun _ => 0) (fun _ => 0) := by
  intro s _
  refine ⟨Nat.zero_lt_succ 127, rfl, fun j _ => ?_⟩
  show (0 : Int32) = nI (0 / 2 ^ j % 2)
  rw [Nat.zero_div]
  rfl
theorem tp_Rc {c : Nat} (h : c ≤ 4) : i_Rel 1 (nI c, fun _ => 0) (nI c, fun _ => 0) := ⟨c, _, _, _, rfl, rfl, h, tp_R0⟩
theorem i_vc0 (k0 : Int32) : wpX_init (fun u => wpY_init (fun v => i_Rel 1 u v) k0) k0 := by
  by_cases h1 : 1 ≤ k0
  · by_cases h4 : k0 ≤ 4
    · have h0 : ¬ k0 < 0 := Int32.not_lt.mpr (Int32.le_trans (by decide) h1)
      obtain ⟨j, hj, rfl⟩ := nI_of2 (M := 4) (n := 4) (by decide) h0 h4
      exact br_t h1 (br_t h4 (br_t h1 (br_t h4 (tp_Rc hj))))
    · exact br_t h1 (br_f h4 (br_t h1 (br_f h4 (tp_Rc (c := 4) (by omega)))))
  · exact br_f h1 (br_t (by decide) (br_f h1 (tp_Rc (c := 1) (by omega))))
theorem i_vc_sets {k : Nat} {u : SX} {v : SY} (I : i_Rel k u v) (hk : k + 3 ≤ 1537) : wpX_sets (fun r => wpY_sets (fun r' => r' = r ∧ i_Rel (k + 3) u v) v) u := by
  have J := I
  obtain ⟨c, m, a, f, rfl, rfl, hc, hR⟩ := I
  exact ⟨rfl, J⟩
theorem i_vc_touch {k : Nat} {u : SX} {v : SY} (I : i_Rel k u v) (hk : k + 3 ≤ 1537) (v1 : Int32) (v2 : Int32) : wpX_touch (fun r u' => wpY_touch (fun r' v' => r' = r ∧ i_Rel (k + 3) u' v') v v1 v2) u v1 v2 := by
  have J := I
  obtain ⟨c, m, a, f, rfl, rfl, hc, hR⟩ := I
  by_cases h0 : v1 < 0
  · exact br_t h0 (br_t h0 ⟨rfl, J⟩)
  by_cases hn : v1 < nI c
  · obtain ⟨s, hs', rfl⟩ := nI_of h0
    have hs : s < c := (nI_ltI hs' (by omega)).mp hn
    by_cases g0 : v2 < 0
    · exact br_f h0 (br_t hn (br_t g0 (br_f h0 (br_t hn (br_t g0 ⟨rfl, J⟩)))))
    by_cases g7 : v2 ≤ 7
    · obtain ⟨w, hw, rfl⟩ := nI_of2 (M := 7) (n := 7) (by decide) g0 g7
      obtain ⟨hm, ha, hf⟩ := hR s (by omega)
      refine tp_x hs hc (by omega) hm ha ?_
      refine tp_y hs hc (by omega) hf ?_
      refine ⟨rfl, c, fun q => if q = s then tp_P (m s) w else m q, _, _, rfl, rfl, hc, ?_⟩
      intro q hq
      obtain ⟨qm, qa, qf⟩ := hR q hq
      by_cases e : q = s
      · subst e
        dsimp only
        rw [if_pos rfl]
        exact ⟨tp_Plt _ _, pk_us, tp_Us hf⟩
      · dsimp only
        rw [if_neg e, pk_un e]
        exact ⟨qm, qa, fun j hj => (tp_Un (by omega) e hj).trans (qf j hj)⟩
    · exact br_f h0 (br_t hn (br_f g0 (br_f g7 (br_f h0 (br_t hn (br_f g0 (br_f g7 ⟨rfl, J⟩)))))))
  · exact br_f h0 (br_f hn (br_f h0 (br_f hn ⟨rfl, J⟩)))
theorem i_vc_victim {k : Nat} {u : SX} {v : SY} (I : i_Rel k u v) (hk : k + 3 ≤ 1537) (v1 : Int32) : wpX_victim (fun r => wpY_victim (fun r' => r' = r ∧ i_Rel (k + 3) u v) v v1) u v1 := by
  have J := I
  obtain ⟨c, m, a, f, rfl, rfl, hc, hR⟩ := I
  by_cases h0 : v1 < 0
  · exact br_t h0 (br_t h0 ⟨rfl, J⟩)
  by_cases hn : v1 < nI c
  · obtain ⟨s, hs', rfl⟩ := nI_of h0
    have hs : s < c := (nI_ltI hs' (by omega)).mp hn
    obtain ⟨hm, ha, hf⟩ := hR s (by omega)
    refine tp_xv hs hc hm ha ?_
    exact tp_yv hs hc hm hf ⟨rfl, J⟩
  · exact br_f h0 (br_f hn (br_f h0 (br_f hn ⟨rfl, J⟩)))
theorem i_vc_bits {k : Nat} {u : SX} {v : SY} (I : i_Rel k u v) (hk : k + 3 ≤ 1537) (v1 : Int32) : wpX_bits (fun r => wpY_bits (fun r' => r' = r ∧ i_Rel (k + 3) u v) v v1) u v1 := by
  have J := I
  obtain ⟨c, m, a, f, rfl, rfl, hc, hR⟩ := I
  by_cases h0 : v1 < 0
  · exact br_t h0 (br_t h0 ⟨rfl, J⟩)
  by_cases hn : v1 < nI c
  · obtain ⟨s, hs', rfl⟩ := nI_of h0
    have hs : s < c := (nI_ltI hs' (by omega)).mp hn
    obtain ⟨hm, ha, hf⟩ := hR s (by omega)
    refine tp_xb hs hc hm ha ?_
    exact tp_yb hs hc hm hf ⟨rfl, J⟩
  · exact br_f h0 (br_f hn (br_f h0 (br_f hn ⟨rfl, J⟩)))
end
