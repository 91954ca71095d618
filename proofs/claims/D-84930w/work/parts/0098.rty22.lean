/-! ===== the reference's types: what is read off ===== -/
set_option maxRecDepth 100000
section Rz0
variable {s s' t : Sg} {p a x y i j o r : Int} {L m c d c' d' mm n : Nat} {C : Nat → Sg → List Int → Ro}
theorem TI.sub (hT : TI s p) (hx : Id s p x) {pre suf : List (Nat × Tr)} {q : Nat × Tr} (e : pps s p x = pre ++ q :: suf) : tsz q.2 < tsz (Ty s p x) := by
  rw [hT.eq hx, tsz_ty2, e, sm_app, sm_cons]; omega
def RpOK (p : Int) (C : Nat → Sg → List Int → Ro) (D : Nat) : Prop := ∀ (s : Sg) (x : Int), TG s p → Id s p x → tdp (Ty s p x) ≤ D → tsz (Ty s p x) ≤ 100000 → C 0 s [p, x] = ra (toc (Ty s p x) : Nat) s
theorem reps_p16 (hC : RpOK p C mm) (hG : TG s p) (hx : Id s p x) (hd : tdp (Ty s p x) ≤ mm + 1) (hz : tsz (Ty s p x) ≤ 100000) : ∀ (L9 : Nat) (suf pre : List (Nat × Tr)), pps s p x = pre ++ suf → suf.length < L9 → f_X21_repeatsOf_p16 L m C p L9 s x (sm toc pre : Nat) pre.length = ra (sm toc (pps s p x) : Nat) s
  | 0, _, _, _, h => by omega
  | L9 + 1, [], pre, e, _ => by
    have hl : (pps s p x).length = pre.length := by rw [e]; simp
    rw [pps_len] at hl
    have := (hG.2.1.tn2 hx).2.2.1
    unfold f_X21_repeatsOf_p16
    rw [inb_of (hG.bd hx).2.2.2, if_neg (by omega), e, List.append_nil]
  | L9 + 1, q :: suf, pre, e, hl => by
    obtain ⟨z1, z2, z3, z4, z5⟩ := hG.2.1.part hx e
    have hs := hG.2.1.sub hx e
    have hr := hG.2.1.rng hx
    have hw := sr_w hG hx (j := pre.length) ⟨by omega, z3⟩
    have hto : ∀ y, Id s p y → toc (Ty s p y) ≤ tsz (Ty s p y) := fun y hy => toc_le _ _ (hG.2.1.wt' hy)
    unfold f_X21_repeatsOf_p16
    rw [inb_of (hG.bd hx).2.2.2, if_pos z3, r_hasVar hG hx, rb_ra]
    by_cases hv : thv (Ty s p x) = true
    · have h2 := hto x hx
      have h3 : toc (Ty s p x) = sm toc (pps s p x) ∨ s 268 0 x = 4 := by
        by_cases q4 : s 268 0 x = 4
        · exact Or.inr q4
        · rw [hG.2.1.eq hx, toc_ty, if_neg (by have := (hG.2.1.tn2 hx).1; omega)]
          exact Or.inl rfl
      have h4 : sm toc (pps s p x) ≤ 100000 := by
        rcases h3 with h3 | h3
        · omega
        · have := ((hG.2.1.vn hx).2.2.2.2.1 h3).2
          rw [this] at e
          cases pre <;> cases e
      have h5 : sm toc (pps s p x) = sm toc pre + (toc q.2 + sm toc suf) := by rw [e, sm_app, sm_cons]
      rw [if_pos hv, if_neg (by decide), inb_of (hG.bd hx).2.2.1, hw, r_part hG hx ⟨by omega, z3⟩, rb_ra, hC s _ hG z1 (by rw [z2]; omega) (by rw [z2]; omega), rb_ra, z2, w3_i (by omega), w3_i (by omega)]
      have := reps_p16 hC hG hx hd hz L9 suf (pre ++ [q]) (by rw [e]; simp) (by simp at hl; omega)
      rw [sm_app, sm_cons, sm_nil] at this
      simpa using this
    · rw [if_neg hv, if_pos rfl]
      have hv' := Bool.eq_false_iff.mpr hv
      have h0 := toc_nv _ _ (hG.2.1.wt' hx) hv'
      rw [hG.2.1.eq hx, toc_ty] at h0
      have hn4 : (s 268 0 x).toNat ≠ 4 := fun z => by rw [if_pos z] at h0; cases h0
      rw [if_neg hn4] at h0
      have h5 : sm toc (pps s p x) = sm toc pre + (toc q.2 + sm toc suf) := by rw [e, sm_app, sm_cons]
      rw [h0, show sm toc pre = 0 by omega]
theorem r_repeatsOf0 (hL : 400000 < L) : ∀ mm, RpOK p (FX21_repeatsOf L m mm) mm
  | 0 => fun s x hG hx hd _ => by rw [hG.2.1.eq hx, tdp_ty] at hd; omega
  | mm + 1 => fun s x hG hx hd hz => by
    show b_X21_repeatsOf L m (FX21_repeatsOf L m mm) s p x = _
    unfold b_X21_repeatsOf
    rw [cls_of hG.1.1, inb_of (hG.bd hx).1]
    have hz1 := (hG.2.1.tn2 hx).1
    have e1 : toc (Ty s p x) = if s 268 0 x = 4 then 1 else sm toc (pps s p x) := by
      rw [hG.2.1.eq hx, toc_ty]
      by_cases q : s 268 0 x = 4
      · rw [if_pos (by omega), if_pos q]
      · rw [if_neg (by omega), if_neg q]
    rw [e1]
    by_cases q : s 268 0 x = 4
    · rw [if_pos q, if_pos q]; rfl
    · rw [if_neg q, if_neg q]
      exact reps_p16 (r_repeatsOf0 hL mm) hG hx hd hz L (pps s p x) [] rfl (by rw [pps_len]; have := hG.2.1.rng hx; omega)
theorem r_repeatsOf (hL : 400000 < L) (hm : 600 ≤ m) (hG : TG s p) (hx : Id s p x) (hd : tdp (Ty s p x) ≤ 600) (hz : tsz (Ty s p x) ≤ 100000) : f_X21_repeatsOf L m s p x = ra (toc (Ty s p x) : Nat) s := r_repeatsOf0 hL (1 * m) s x hG hx (by omega) hz
/-- structs -/
def stf (s : Sg) (p : Int) (r : Nat) : Bool := s 250 p r != 0
def KdOK (p : Int) (C : Nat → Sg → List Int → Ro) (D : Nat) : Prop := ∀ (s : Sg) (x : Int), TG s p → s 1250 p 0 = 450 → Id s p x → tdp (Ty s p x) ≤ D → C 0 s [p, x] = ra (if tkd (stf s p) (Ty s p x) = true then 1 else 0) s
theorem kind_0 (hG : TG s p) (hx : Id s p x) {L9 : Nat} : f_X21_isKind_p107 L m C p (L9 + 1) s x 0 j = ra 0 s := by
  unfold f_X21_isKind_p107
  rw [inb_of (hG.bd hx).2.2.2]
  split
  · rw [if_pos rfl, ck_of (Or.inl rfl)]
  · rw [ck_of (Or.inl rfl)]
theorem kind_p107 (hC : KdOK p C mm) (hG : TG s p) (hS : s 1250 p 0 = 450) (hx : Id s p x) (hd : tdp (Ty s p x) ≤ mm + 1) : ∀ (L9 : Nat) (suf pre : List (Nat × Tr)), pps s p x = pre ++ suf → suf.length + 1 < L9 → f_X21_isKind_p107 L m C p L9 s x 1 pre.length = ra (if (suf.all fun q => if s 268 0 x = 2 then tkd (stf s p) q.2 else q.1 != 1) = true then 1 else 0) s
  | 0, _, _, _, h => by omega
  | L9 + 1, [], pre, e, _ => by
    have hl : (pps s p x).length = pre.length := by rw [e]; simp
    rw [pps_len] at hl
    have := (hG.2.1.tn2 hx).2.2.1
    unfold f_X21_isKind_p107
    rw [inb_of (hG.bd hx).2.2.2, if_neg (by omega), ck_of (Or.inr rfl)]
    rfl
  | L9 + 1, q :: suf, pre, e, hl => by
    obtain ⟨z1, z2, z3, z4, z5⟩ := hG.2.1.part hx e
    have hr := hG.2.1.rng hx
    have hw := sr_w hG hx (j := pre.length) ⟨by omega, z3⟩
    have hb := hG.bd hx
    obtain ⟨L8, rfl⟩ : ∃ z, L9 = z + 1 := ⟨L9 - 1, by simp at hl; omega⟩
    have ih := kind_p107 hC hG hS hx hd (L8 + 1) suf (pre ++ [q]) (by rw [e]; simp) (by simp at hl; omega)
    rw [show (((pre ++ [q]).length : Nat) : Int) = (pre.length : Int) + 1 by simp] at ih
    unfold f_X21_isKind_p107
    rw [inb_of hb.2.2.2, if_pos z3, if_neg (by decide), inb_of hb.1, List.all_cons]
    have hcase : ∀ b : Bool, f_X21_isKind_p107 L m C p (L8 + 1) s x (if b = true then 1 else 0) ((pre.length : Int) + 1) = ra (if (b && suf.all fun q => if s 268 0 x = 2 then tkd (stf s p) q.2 else q.1 != 1) = true then 1 else 0) s := fun b => by
      cases b with
      | false => exact kind_0 hG hx
      | true => rw [i01t, ih, Bool.true_and]
    by_cases h2 : s 268 0 x = 2
    · simp only [if_pos h2] at hcase ⊢
      rw [inb_of hb.2.2.1, hw, r_part hG hx ⟨by omega, z3⟩, rb_ra, hC s _ hG hS z1 (by rw [z2]; omega), rb_ra, z2, w3_i (by omega)]
      exact hcase _
    · simp only [if_neg h2] at hcase ⊢
      rw [inb_of hb.2.2.1, hw, r_below hG hx ⟨by omega, z3⟩, rb_ra, z5, w3_i (by omega)]
      have := hcase (q.1 != 1)
      by_cases q0 : q.1 = 1
      · rw [q0] at this ⊢
        rw [if_neg (by decide)]
        exact this
      · have e1 : (q.1 != 1) = true := by rw [bne_iff_ne]; exact q0
        rw [e1] at this ⊢
        rw [if_pos (by omega)]
        exact this
theorem r_isKind0 (hL : 400000 < L) : ∀ mm, KdOK p (FX21_isKind L m mm) mm
  | 0 => fun s x hG _ hx hd => by rw [hG.2.1.eq hx, tdp_ty] at hd; omega
  | mm + 1 => fun s x hG hS hx hd => by
    show b_X21_isKind L m (FX21_isKind L m mm) s p x = _
    have hb := hG.bd hx
    have z := hG.2.1.tn2 hx
    have lp := kind_p107 (L := L) (m := m) (r_isKind0 hL mm) hG hS hx hd L (pps s p x) [] rfl (by rw [pps_len]; have := hG.2.1.rng hx; omega)
    rw [show ((([] : List (Nat × Tr)).length : Nat) : Int) = 0 from rfl] at lp
    obtain ⟨L8, hL8⟩ : ∃ z, L = z + 1 := ⟨L - 1, by omega⟩
    have k0 : f_X21_isKind_p107 L m (FX21_isKind L m mm) p L s x 0 0 = ra 0 s := by rw [hL8]; exact kind_0 hG hx
    have e9 : f_X21_isKind_p99 L m (FX21_isKind L m mm) p s x = f_X21_isKind_p107 L m (FX21_isKind L m mm) p L s x 1 0 := rfl
    have ek := hG.2.1.eq hx
    unfold b_X21_isKind
    simp only [inb_of hb.1, inb_of hb.2.1]
    rw [cls_of hG.1.1, e9]
    by_cases h3 : s 268 0 x = 3
    · rw [if_pos h3, ek, tkd_ty, show (s 268 0 x).toNat = 3 by omega]; rfl
    rw [if_neg h3]
    have hrr : rr s p x = (s 269 0 x).toNat := by unfold rr; rw [if_neg h3]
    by_cases h2 : s 268 0 x = 2
    · rw [if_pos h2, lp, ek, tkd_ty, show (s 268 0 x).toNat = 2 by omega]
      simp only [if_pos h2]
      generalize ((pps s p x).all fun q => tkd (stf s p) q.2) = A
      cases A <;> rfl
    rw [if_neg h2]
    by_cases h0 : s 268 0 x = 0
    · have hvn := ((hG.2.1.vn hx).1 h0).1
      have hNB := hG.2.2.1.2.1
      rw [if_pos h0, ek, tkd_ty, show (s 268 0 x).toNat = 0 by omega, hrr]
      simp only [if_neg h2] at lp
      have eb : ∀ k : Nat, ((s 269 0 x).toNat == k) = decide (s 269 0 x = k) := fun k => by
        by_cases q : s 269 0 x = k
        · rw [decide_eq_true q, beq_iff_eq]; omega
        · rw [decide_eq_false q, beq_eq_false_iff_ne]; omega
      simp only [eb]
      have es : stf s p (s 269 0 x).toNat = (s 250 p (s 269 0 x) != 0) := by unfold stf; rw [show (((s 269 0 x).toNat : Nat) : Int) = s 269 0 x by omega]
      rw [es, inb_of ⟨by omega, by show _ < s 1250 p 0; omega⟩]
      generalize hall : ((pps s p x).all fun q => q.1 != 1) = A at *
      by_cases c8 : s 269 0 x = 8
      · rw [if_pos c8, lp]; simp [c8]
      rw [if_neg c8]
      by_cases c9 : s 269 0 x = 9
      · rw [if_pos c9, lp]; simp [c9]
      rw [if_neg c9]
      by_cases c2 : s 269 0 x = 2
      · rw [if_pos c2, lp]; simp [c2]
      rw [if_neg c2]
      by_cases cs : s 250 p (s 269 0 x) = 0
      · rw [if_pos cs]
        by_cases c6 : s 269 0 x = 6
        · rw [if_pos c6, lp]; simp [c6]
        rw [if_neg c6]
        by_cases c7 : s 269 0 x = 7
        · rw [if_pos c7, lp]; simp [c7]
        rw [if_neg c7, k0]
        have c8' : ¬ (s 269 0 x = ((8 : Nat) : Int)) := c8
        have c9' : ¬ (s 269 0 x = ((9 : Nat) : Int)) := c9
        have c2' : ¬ (s 269 0 x = ((2 : Nat) : Int)) := c2
        have c6' : ¬ (s 269 0 x = ((6 : Nat) : Int)) := c6
        have c7' : ¬ (s 269 0 x = ((7 : Nat) : Int)) := c7
        rw [decide_eq_false c8', decide_eq_false c9', decide_eq_false c2', decide_eq_false c6', decide_eq_false c7', cs]
        rfl
      · rw [if_neg cs, lp]
        have : (s 250 p (s 269 0 x) != 0) = true := by rw [bne_iff_ne]; exact cs
        rw [this]; simp
    · rw [if_neg h0, k0, ek, tkd_ty]
      have n3 : ((s 268 0 x).toNat == 3) = false := beq_eq_false_iff_ne.mpr (by omega)
      have n2 : ((s 268 0 x).toNat == 2) = false := beq_eq_false_iff_ne.mpr (by omega)
      have n0 : ((s 268 0 x).toNat == 0) = false := beq_eq_false_iff_ne.mpr (by omega)
      rw [n3, n2, n0]; rfl
theorem r_isKind (hL : 400000 < L) (hm : 600 ≤ m) (hG : TG s p) (hS : s 1250 p 0 = 450) (hx : Id s p x) (hd : tdp (Ty s p x) ≤ 600) : f_X21_isKind L m s p x = ra (if tkd (stf s p) (Ty s p x) = true then 1 else 0) s := r_isKind0 hL (1 * m) s x hG hS hx (by omega)
end Rz0
