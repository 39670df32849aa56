section
/-- one picture of both objects: p bytes written, d messages begun and not ended, the cells from p on still 0, the two length bytes of each of them below p -/
def pt_Ok (p d : Nat) (o s : Nat → Int32) : Prop := p ≤ 16 ∧ d ≤ 3 ∧ (∀ j, p ≤ j → o j = 0) ∧ (∀ i, i < d → ∃ q : Nat, q + 2 ≤ p ∧ s i = nI q)
theorem pt_same {f : Nat → Int32} {k : Nat} {x : Int32} (h : f k = x) : upd f k x = f := by
  funext j
  show (if j = k then x else f j) = f j
  by_cases e : j = k
  · rw [if_pos e, e, h]
  · rw [if_neg e]
theorem pt_at {f : Nat → Int32} {k : Nat} {x : Int32} : upd f k x k = x := by
  show (if k = k then x else f k) = x
  rw [if_pos rfl]
theorem pt_off {f : Nat → Int32} {k j : Nat} {x : Int32} (h : ¬ j = k) : upd f k x j = f j := by
  show (if j = k then x else f j) = f j
  rw [if_neg h]
theorem pt_b0 : vp_nar .byte 0 = 0 := by rw [vp_nar_byte]; decide
theorem pt_short16 : ∀ p : Nat, p < 17 → (nI p).toInt16.toInt32.toInt16.toInt32 = nI p := by decide +kernel
theorem pt_short {p : Nat} (h : p ≤ 16) : vp_nar .short (nI p).toInt16.toInt32 = nI p := by
  rw [vp_nar_short]; exact pt_short16 p (by omega)
theorem pt_byte (x : Int32) : (x &&& 255).toInt8 = x.toInt8 := by
  have e : (255 : Int32).toInt8 = -1 := by decide
  rw [Int32.toInt8_and, e, Int8.and_neg_one]
/-- begin's two zeros change nothing: both cells lie at p or beyond -/
theorem pt_zeros {p : Nat} {o : Nat → Int32} (hp : p + 2 ≤ 16) (ho : ∀ j, p ≤ j → o j = 0) : upd (upd o (nI p).toNatClampNeg (vp_nar .byte 0)) (nI p + 1).toNatClampNeg (vp_nar .byte 0) = o := by
  rw [nI_1, nI_clamp (by omega), nI_clamp (by omega), pt_b0, pt_same (f := o) (ho p (by omega)), pt_same (ho (p + 1) (by omega))]
theorem pt_begin {p d : Nat} {o s : Nat → Int32} (h : pt_Ok p d o s) (hd : d < 3) (hp : p + 2 ≤ 16) : pt_Ok (p + 2) (d + 1) o (upd s d (nI p)) := by
  obtain ⟨_, _, ho, hs⟩ := h
  refine ⟨hp, hd, fun j hj => ho j (by omega), fun i hi => ?_⟩
  by_cases e : i = d
  · exact ⟨p, by omega, by rw [e, pt_at]⟩
  · obtain ⟨q, hq, eq⟩ := hs i (by omega)
    exact ⟨q, by omega, by rw [pt_off e, eq]⟩
theorem pt_put {p d : Nat} {o s : Nat → Int32} (h : pt_Ok p d o s) (hp : p < 16) (x : Int32) : pt_Ok (p + 1) d (upd o p x) s := by
  obtain ⟨_, hd, ho, hs⟩ := h
  refine ⟨hp, hd, fun j hj => ?_, fun i hi => ?_⟩
  · rw [pt_off (by omega)]; exact ho j (by omega)
  · obtain ⟨q, hq, eq⟩ := hs i hi
    exact ⟨q, by omega, eq⟩
theorem pt_end {p d q : Nat} {o s : Nat → Int32} (h : pt_Ok p (d + 1) o s) (hq : q + 2 ≤ p) (x y : Int32) : pt_Ok p d (upd (upd o q x) (q + 1) y) s := by
  obtain ⟨hp, hd, ho, hs⟩ := h
  refine ⟨hp, by omega, fun j hj => ?_, fun i hi => hs i (by omega)⟩
  rw [pt_off (by omega), pt_off (by omega)]; exact ho j hj
end
section
/-- both objects are the same state, and it is a good one -/
def i_Rel (_ : Nat) (u : SX) (v : SY) : Prop := ∃ (p d : Nat) (o s : Nat → Int32), u = (nI p, nI d, o, s) ∧ v = (nI p, nI d, o, s) ∧ pt_Ok p d o s
theorem i_up {k : Nat} {u : SX} {v : SY} (h : i_Rel k u v) : i_Rel (k + 2) u v := h
theorem i_vc0 : wpX_init (fun u => wpY_init (fun v => i_Rel 0 u v)) := ⟨0, 0, fun _ => 0, fun _ => 0, by rw [nI_0], by rw [nI_0], by omega, by omega, fun _ _ => rfl, fun _ h => absurd h (by omega)⟩
theorem i_vc_begin {k : Nat} {u : SX} {v : SY} (I : i_Rel k u v) (hk : k + 2 ≤ 1024) : wpX_begin (fun r u' => wpY_begin (fun r' v' => r' = r ∧ i_Rel (k + 2) u' v') v) u := by
  obtain ⟨p, d, o, s, rfl, rfl, h⟩ := I
  obtain ⟨hp, hd, ho, hs⟩ := id h
  by_cases h3 : d < 3
  · have c3 : nI d < 3 := nI_lt (b := 3) h3 (by decide)
    have e2 : nI p + 2 = nI (p + 2) := nI_add p 2
    by_cases h16 : p + 2 ≤ 16
    · have c16 : nI p + 2 ≤ 16 := by rw [e2]; exact nI_le (b := 16) h16 (by decide)
      have i0 : vp_in (nI d) 3 := vp_in_nI h3 (by decide)
      have i1 : vp_in (nI p) 16 := vp_in_nI (by omega) (by decide)
      have i2 : vp_in (nI p + 1) 16 := by rw [nI_1]; exact vp_in_nI (by omega) (by decide)
      refine br_t c3 (br_t c16 ⟨i0, fun s' es => ⟨i1, fun o1 eo1 => ⟨i2, fun o2 eo2 p' ep d' ed => ?_⟩⟩⟩)
      refine br_t c3 (br_t c16 fun d2 ed2 => ⟨i0, fun s2 es2 p2 ep2 => ⟨ed2.trans ed.symm, p + 2, d + 1, o, upd s d (nI p), ?_, ?_, pt_begin h h3 h16⟩⟩)
      · rw [ep, ed, eo2, eo1, es, pt_zeros h16 ho, e2, nI_1, nI_clamp (by omega), pt_short hp]
      · rw [ep2, ed2, es2, e2, nI_1, nI_clamp (by omega), pt_short hp]
    · have c16 : ¬ nI p + 2 ≤ 16 := by rw [e2]; exact nI_ge (a := 16) (by omega) (by omega)
      exact br_t c3 (br_f c16 (br_t c3 (br_f c16 ⟨rfl, p, d, o, s, rfl, rfl, h⟩)))
  · have c3 : ¬ nI d < 3 := nI_nlt (b := 3) (by omega) (by omega)
    exact br_f c3 (br_f c3 ⟨rfl, p, d, o, s, rfl, rfl, h⟩)
theorem i_vc_put {k : Nat} {u : SX} {v : SY} (I : i_Rel k u v) (hk : k + 2 ≤ 1024) (v1 : Int32) : wpX_put (fun r u' => wpY_put (fun r' v' => r' = r ∧ i_Rel (k + 2) u' v') v v1) u v1 := by
  obtain ⟨p, d, o, s, rfl, rfl, h⟩ := I
  obtain ⟨hp, hd, ho, hs⟩ := id h
  by_cases h16 : p < 16
  · have c : nI p < 16 := nI_lt (b := 16) h16 (by decide)
    have i1 : vp_in (nI p) 16 := vp_in_nI h16 (by decide)
    refine br_t c ⟨i1, fun o1 eo1 p1 ep1 => ?_⟩
    refine br_t c fun p2 ep2 => ⟨i1, fun o2 eo2 => ⟨ep2.trans ep1.symm, p + 1, d, upd o p (vp_nar .byte v1.toInt8.toInt32), s, ?_, ?_, pt_put h h16 _⟩⟩
    · rw [ep1, eo1, pt_byte, nI_1, nI_clamp (by omega)]
    · rw [ep2, eo2, nI_1, nI_clamp (by omega)]
  · have c : ¬ nI p < 16 := nI_nlt (b := 16) (by omega) (by omega)
    exact br_f c (br_f c ⟨rfl, p, d, o, s, rfl, rfl, h⟩)
theorem i_vc_end {k : Nat} {u : SX} {v : SY} (I : i_Rel k u v) (hk : k + 2 ≤ 1024) : wpX_end (fun r u' => wpY_end (fun r' v' => r' = r ∧ i_Rel (k + 2) u' v') v) u := by
  obtain ⟨p, d, o, s, rfl, rfl, h⟩ := I
  obtain ⟨hp, hd, ho, hs⟩ := id h
  cases d with
  | zero =>
    have c : ¬ 0 < nI 0 := by rw [nI_0]; decide
    exact br_f c (br_t nI_0 ⟨rfl, p, 0, o, s, rfl, rfl, h⟩)
  | succ d =>
    obtain ⟨q, hq, eq⟩ := hs d (by omega)
    have c : 0 < nI (d + 1) := nI_lt (a := 0) (by omega) (by omega)
    have c' : ¬ nI (d + 1) = 0 := nI_ne0 (by omega) (by omega)
    have i0 : vp_in (nI (d + 1) - 1) 3 := by rw [nI_pred]; exact vp_in_nI (by omega) (by decide)
    have i1 : vp_in (nI q) 16 := vp_in_nI (by omega) (by decide)
    have i2 : vp_in (nI q + 1) 16 := by rw [nI_1]; exact vp_in_nI (by omega) (by decide)
    have ex : s (nI (d + 1) - 1).toNatClampNeg = nI q := by rw [nI_pred, nI_clamp (by omega), eq]
    have eq0 : (nI q).toNatClampNeg = q := nI_clamp (by omega)
    have eq1 : (nI q + 1).toNatClampNeg = q + 1 := by rw [nI_1]; exact nI_clamp (by omega)
    refine br_t c ⟨i0, nm_r ex fun x ex1 => ⟨i1, fun o1 eo1 => ⟨i2, fun o2 eo2 d1 ed1 => ?_⟩⟩⟩
    refine br_f c' fun d2 ed2 => ⟨i0, nm_r ex fun y ey1 => ⟨i1, fun o3 eo3 => ⟨i2, fun o4 eo4 => ?_⟩⟩⟩
    have exy : y = x := ey1.trans ex1.symm
    rw [eo3, eq0, eq1] at eo4
    rw [eo1, eq0, eq1] at eo2
    rw [exy] at eo4 ⊢
    rw [nI_pred] at ed1 ed2
    rw [ed1, ed2, eo2, eo4]
    exact ⟨rfl, p, d, _, s, rfl, rfl, pt_end h hq _ _⟩
theorem i_vc_byteAt {k : Nat} {u : SX} {v : SY} (I : i_Rel k u v) (hk : k + 2 ≤ 1024) (v1 : Int32) : wpX_byteAt (fun r => wpY_byteAt (fun r' => r' = r ∧ i_Rel (k + 2) u v) v v1) u v1 := by
  obtain ⟨p, d, o, s, rfl, rfl, h⟩ := id I
  by_cases h0 : v1 < 0
  · exact br_t h0 (br_t h0 ⟨rfl, I⟩)
  · by_cases hp : v1 < nI p
    · have i1 : vp_in v1 16 := by
        obtain ⟨j, hj, rfl⟩ := nI_of h0
        rw [nI_ltI hj (by have := h.1; omega)] at hp
        exact vp_in_nI (by have := h.1; omega) (by decide)
      exact br_f h0 (br_t hp ⟨i1, br_f h0 (br_t hp ⟨i1, rfl, I⟩)⟩)
    · exact br_f h0 (br_f hp (br_f h0 (br_f hp ⟨rfl, I⟩)))
end
