/-! ===== the reference's types: put, above ===== -/
set_option maxRecDepth 100000
section Rl0
variable {s s' : Sg} {p a x y u t r : Int} {L m c d : Nat}
theorem tput_tpp {args : List (Nat × Tr)} {o r : Nat} {ps : List (Nat × Tr)} (h : o ≠ 4) : tput args (ty o r ps) = ty o r (ps.map (tpp args)) := by
  rw [tput_ty, if_neg h]; rfl
theorem TI.sz1 (hT : TI s p) (hu : Id s p u) {q : Nat × Tr} (hq : q ∈ pps s p u) : 1 ≤ tsz q.2 := by
  unfold pps at hq
  obtain ⟨k, hk, rfl⟩ := List.mem_map.mp hq
  have hk := List.mem_range.mp hk
  obtain ⟨_, y2, _⟩ := (hT.tn2 hu).2.2.2 k (by omega) (by omega)
  show 1 ≤ tsz (Ty s p _)
  rw [hT.eq y2, tsz_ty]; omega
theorem r_put0 (hL : 400000 < L) : ∀ mm, Pt1 L m p (FX21_put L m mm) mm
  | 0 => fun s u t e hG hu ht hd => by
    rw [hG.2.1.eq hu, tdp_ty] at hd
    omega
  | mm + 1 => fun s u t e hG hu ht hd hv hp he hC hg => by
    show Mk p _ _ s (b_X21_put L m (FX21_put L m mm) s p u t) _
    unfold b_X21_put
    have hb := hG.bd hu
    rw [cls_of hG.1.1, r_hasVar hG hu, rb_ra]
    have hT := hG.2.1
    by_cases h1 : thv (Ty s p u) = true
    · rw [if_pos h1, if_neg (by decide), inb_of hb.1]
      have z := hT.tn2 hu
      by_cases h4 : s 268 0 u = 4
      · have hbt := hG.bd ht
        rw [if_pos h4, inb_of hbt.2.2.1, inb_of hb.2.1]
        rw [hT.eq hu, tvl_ty, h4] at hv
        simp at hv
        rw [show rr s p u = (s 269 0 u).toNat by unfold rr; rw [if_neg (by omega)], hT.pa ht, pps_len] at hv
        have hrt : 0 ≤ s 269 0 u ∧ s 269 0 u < s 271 0 t := ⟨by omega, by have := hv.1; omega⟩
        rw [sr_w hG ht hrt, r_part hG ht hrt, rb_ra]
        obtain ⟨v1, v2, v3⟩ := (hT.tn2 ht).2.2.2 _ hrt.1 hrt.2
        refine ⟨_, _, rfl, hG.rf.wd (by omega) (by omega), v2, ?_, rfl⟩
        rw [hT.eq hu, tput_ty, if_pos (by rw [h4]; rfl), hT.pa ht, List.getD_eq_getElem?_getD]
        have hlt : rr s p u < (pps s p t).length := by
          rw [show rr s p u = (s 269 0 u).toNat by unfold rr; rw [if_neg (by omega)], pps_len]; omega
        rw [List.getElem?_eq_getElem hlt, Option.getD_some, pps_get]
        show Ty s p _ = Ty s p _
        rw [show ((rr s p u : Nat) : Int) = s 269 0 u by rw [show rr s p u = (s 269 0 u).toNat by unfold rr; rw [if_neg (by omega)]]; omega]
      · rw [if_neg h4]
        have e1 := hT.eq hu
        have hany : (pps s p u).any (fun q => thv q.2) = true := by
          rw [e1, thv_ty, Bool.or_eq_true] at h1
          rcases h1 with h1 | h1
          · have := beq_iff_eq.mp h1; omega
          · exact h1
        have hp' := hp
        rw [e1, pok_ty, hany] at hp'
        have hne4 : ((s 268 0 u).toNat == 4) = false := beq_eq_false_iff_ne.mpr (by omega)
        rw [hne4] at hp'
        simp at hp'
        obtain ⟨hp1, hp2⟩ := hp'
        have ho : s 268 0 u = 0 ∨ (s 268 0 u = 2 ∧ e = true) := by
          rcases hp1 with h | ⟨h, h'⟩
          · exact Or.inl (by omega)
          · exact Or.inr ⟨by omega, h'⟩
        have etp := hT.pa ht
        rw [etp] at hv he ⊢
        rw [e1, tcn_ty, tcd_ty, if_neg (by rw [hany]; simp; omega), if_neg (by rw [hany]; simp; omega)] at hC
        rw [e1, tcn_ty, tcd_ty, if_neg (by rw [hany]; simp; omega), if_neg (by rw [hany]; simp; omega)]
        have hv' : ∀ q ∈ pps s p u, tvl (pps s p t).length q.2 = true := by
          rw [e1, tvl_ty, Bool.and_eq_true] at hv
          exact fun q hq => List.all_eq_true.mp hv.2 q hq
        have h1' : ∀ q ∈ pps s p u, 1 ≤ tsz q.2 := fun q hq => hT.sz1 hu hq
        rw [e1, tsz_ty2] at hg
        obtain ⟨v, s', f1, f2, f3, f4, f5⟩ := put_p46 (a := s 279 p 0) (m := m) hL (r_put0 hL mm) hG hu ht (e := e) (by rcases ho with h | h; exact Or.inl h; exact Or.inr h.1) (fun q hq => by
          have h9 := tdp_lt (o := (s 268 0 u).toNat) (r := rr s p u) hq
          rw [← e1] at h9; omega) hv' (fun q hq => hp2 q.1 q.2 hq) (fun h q hq => he h q hq) (fun h => by rcases ho with h' | h'; omega; exact h'.2) h1' L (pps s p u) [] s rfl hG.rf hG (GL.nil ⟨hG.2.2.2, by omega⟩) (by rw [pps_len]; have := hT.rng hu; omega) hC (by omega) rfl
        refine ⟨v, s', f1, f2, f3, ?_, f5⟩
        rw [f4, tput_tpp (by omega)]
        have : rr s p u = (s 269 0 u).toNat := by unfold rr; rw [if_neg (by rcases ho with h | h; omega; omega)]
        rw [this]
    · rw [if_neg h1, if_pos rfl]
      refine ⟨u, s, rfl, hG.rf.wd (by omega) (by omega), hu, ?_, rfl⟩
      exact (tput_nv _ _ (hT.wt' hu) (Bool.eq_false_iff.mpr h1)).symm
end Rl0
