/-! ===== the reference's types: isSub ===== -/
set_option maxRecDepth 100000
section Ro0
variable {s s' t : Sg} {p a x y i j o r : Int} {L m c d mm : Nat} {ro : Ro} {bb : Bool} {C : Nat → Sg → List Int → Ro}
theorem rk_58 {a b : Tr} : 64 * tdp b ≤ rk a b ∧ rk a b ≤ 64 * tdp b + 61 := by
  unfold rk
  split
  · omega
  · split <;> omega
theorem r_within (hS : SubOK L p (FX21_isSub L m mm) mm) : WiOK L p (FX21_isSub L m (mm + 1)) (mm + 1) := by
  intro s x y pre suf pre' suf' q q' hG hA hx hy e e' hp hk hC hg
  show Bt p s (b_X21_isWithin L m (FX21_isSub L m mm) s p (w3 (s 270 0 x + pre.length)) (w3 (s 270 0 y + pre.length))) _
  have hT := hG.2.1
  obtain ⟨z1, z2, z3, z4, z5⟩ := hT.part hx e
  obtain ⟨v1, v2, v3, v4, v5⟩ := hT.part hy e'
  rw [← hp] at v1 v2 v3 v5
  have hq1 : q.1 ≤ 1 := by omega
  unfold b_X21_isWithin
  rw [cls_of hG.1.1, sr_w hG hx ⟨by omega, z3⟩, sr_w hG hy ⟨by omega, v3⟩, r_below hG hy ⟨by omega, v3⟩, rb_ra, v5]
  unfold twi
  by_cases h1 : q'.1 = 1
  · rw [if_neg (by omega), if_pos h1, r_part hG hx ⟨by omega, z3⟩, rb_ra, r_part hG hy ⟨by omega, v3⟩, rb_ra]
    have hr := rk_58 (a := q.2) (b := q'.2)
    obtain ⟨t, f1, f2, f3⟩ := hS s _ _ hG hA z1 v1 (by rw [z2, v2]; omega) (hC.wd (by omega) (by omega)) hg
    rw [z2, v2] at f1
    rw [f1, rb_ra, ck_of (by cases tsub (abf s p) q.2 q'.2; exact Or.inl rfl; exact Or.inr rfl)]
    exact ⟨t, rfl, f2, f3⟩
  · rw [if_pos (by omega), if_neg h1, r_below hG hx ⟨by omega, z3⟩, rb_ra, z5]
    by_cases h2 : q.1 = 0
    · rw [if_pos (by omega), r_part hG hx ⟨by omega, z3⟩, rb_ra, r_part hG hy ⟨by omega, v3⟩, rb_ra]
      have e1 : (q.1 != 1) = true := by rw [bne_iff_ne]; omega
      rw [e1, Bool.true_and]
      by_cases h3 : s 274 0 (s 270 0 x + pre.length) / 2 = s 274 0 (s 270 0 y + pre.length) / 2
      · rw [if_pos h3]
        exact Bt.yes hG rfl (teq_iff.mpr (by rw [← z2, ← v2, h3]))
      · rw [if_neg h3]
        exact Bt.no hG rfl (teq_ne fun z => h3 (hT.inj z1 v1 (by rw [z2, v2, z])))
    · rw [if_neg (by omega)]
      have e1 : (q.1 != 1) = false := by rw [show q.1 = 1 by omega]; rfl
      exact Bt.no hG rfl (by rw [e1]; rfl)
/-- one step up -/
theorem sub_p315 (hL : 400000 < L) (hm : 60 ≤ m) (hS : SubOK L p C mm) (hx : Id s p x) (hy : Id s p y) (hG0 : TG s p) (hA : AB s p) (hC : Cap s p (5 * mm + 5) (4 * mm + 4)) (hg : s 279 p 0 + 500 ≤ 4000) (hk : rk (Ty s p x) (Ty s p y) < mm + 1) {b2 : Bool} (hb : ∀ τ, tabove (abf s p) (Ty s p x) = some τ → tsub (abf s p) τ (Ty s p y) = b2) (hb0 : tabove (abf s p) (Ty s p x) = none → b2 = false) (hu : fo (Ty s p x) ≠ 1) : Bt p s (f_X21_isSub_p315 L m C p s x y) b2 := by
  unfold f_X21_isSub_p315
  rcases r_aboveOf (m := m) hG0 hA hx (hC.wd (by omega) (by omega)) hg hL hm with ⟨h1, h2⟩ | ⟨τ, h1, v, s1, f1, f2, f3, f4, f5⟩
  · rw [h2, rb_ra, if_pos (by decide)]
    obtain ⟨t', g1, g2, g3, g4⟩ := TX.cut (m := m) hG0.1 hG0.2.1 hG0.rf hL
    rw [g1, rb_ra]
    exact ⟨t', by rw [hb0 h1]; rfl, g2, g3⟩
  · have hG1 := hG0.u f2 (by rw [f5]; exact hG0.2.2.2)
    obtain ⟨hA1, hab⟩ := hA.u hG0 f2
    have hfτ : fo τ = 0 ∧ rk τ (Ty s p y) < mm := by
      have hN := hA.ok hG0.2.1 hG0.2.2.1
      unfold tabove at h1
      unfold rk at hk ⊢
      split at h1
      · next q =>
        cases h1
        rw [fo_ty, re_ty]
        rw [if_neg hu, if_neg (by omega)] at hk
        refine ⟨rfl, ?_⟩
        rw [if_neg (by decide), if_pos rfl]; omega
      · split at h1
        · next q q2 =>
          cases h1
          rw [fo_ty, re_ty]
          rw [if_neg hu, if_neg (by omega)] at hk
          refine ⟨rfl, ?_⟩
          rw [if_neg (by decide), if_pos rfl]; omega
        · split at h1
          · next q q2 q3 =>
            have h0 : s 268 0 x = 0 := by
              have := q3.1
              rw [hG0.2.1.fo hx] at this
              have := (hG0.2.1.tn2 hx).1
              omega
            have hlt : re (Ty s p x) < (s 242 p 0).toNat := by
              rw [hG0.2.1.re hx (by omega)]
              have := ((hG0.2.1.vn hx).1 h0).1
              have := (hG0.2.1.tn2 hx).2.1
              omega
            obtain ⟨r', qs, e, hr'⟩ := hN.2.2.2 _ hlt q3.2
            have h57 := hN.1
            have e2 := Option.some.inj h1
            rw [e, tput_ty, if_neg (by decide)] at e2
            rw [← e2, fo_ty, re_ty]
            rw [if_neg hu, if_pos q3.1] at hk
            refine ⟨rfl, ?_⟩
            rw [if_neg (by decide), if_pos rfl]; omega
          · cases h1
    obtain ⟨t, g1, g2, g3⟩ := hS s1 v y hG1 hA1 f3 (hy.u f2) (by rw [f4, f2.2.2.2.2.1 y hy]; exact hfτ.2) (Cap.af (c := 5) (d := 4) (hC.wd (by omega) (by omega)) f2) (by omega)
    rw [f4, f2.2.2.2.2.1 y hy, hab, hb τ h1] at g1
    rw [f1, rb_ra, if_neg (by have := f3.1; omega), g1, rb_ra]
    have hX2 := f2.tr (by omega) g2
    obtain ⟨t', k1, k2, k3, k4⟩ := TX.cut (m := m) hG0.1 hG0.2.1 hX2 hL
    cases b2 with
    | false =>
      rw [i01f, if_pos rfl, k1, rb_ra]
      exact ⟨t', rfl, k2, by omega⟩
    | true =>
      rw [i01t, if_neg (by decide), k1, rb_ra]
      exact ⟨t', rfl, k2, by omega⟩
end Ro0
theorem all2_len {α β : Type} {f : α → β → Bool} : ∀ {l : List α} {k : List β}, l.length ≠ k.length → all2 f l k = false
  | [], [], h => absurd rfl h
  | [], _ :: _, _ => rfl
  | _ :: _, [], _ => rfl
  | x :: l, y :: k, h => by
    show (f x y && all2 f l k) = false
    rw [all2_len (fun z => h (by simp [z])), Bool.and_false]
section Rp0
variable {s s' t : Sg} {p a x y i j o r : Int} {L m c d mm : Nat} {ro : Ro} {bb : Bool} {C : Nat → Sg → List Int → Ro}
theorem r_isSub0 (hL : 400000 < L) (hm : 60 ≤ m) : ∀ mm, SubOK L p (FX21_isSub L m mm) mm ∧ WiOK L p (FX21_isSub L m mm) mm
  | 0 => ⟨fun s x y _ _ _ _ h _ _ => by omega, fun s x y pre suf pre' suf' q q' _ _ _ _ _ _ _ h _ _ => by omega⟩
  | mm + 1 => by
    obtain ⟨hS, hW⟩ := r_isSub0 hL hm mm
    refine ⟨fun s x y hG hA hx hy hk hC hg => ?_, r_within hS⟩
    show Bt p s (b_X21_isSub L m (FX21_isSub L m mm) s p x y) _
    have hT := hG.2.1
    have hb := hG.bd hx
    have hby := hG.bd hy
    have hAO := hA.ok hT hG.2.2.1
    have zx := hT.tn2 hx
    have zy := hT.tn2 hy
    have ey := hT.eq hy
    have ex := hT.eq hx
    have hfx := hT.fo hx
    have hpx := hT.pa hx
    have hr8 := rk_58 (a := Ty s p x) (b := Ty s p y)
    have hsz : ∀ q ∈ pps s p y, tdp q.2 < tdp (Ty s p y) := fun q hq => by rw [ey]; exact tdp_lt hq
    have hC1 : Cap s p (5 * mm) (4 * mm) := hC.wd (by omega) (by omega)
    unfold b_X21_isSub
    rw [cls_of hG.1.1]
    by_cases hxy : x = y
    · rw [if_pos hxy]
      exact Bt.yes hG rfl (by rw [hxy]; exact tsub_refl (ti_fr hT hy))
    rw [if_neg hxy, inb_of hby.1, inb_of hby.2.1]
    have hne : Ty s p x ≠ Ty s p y := fun z => hxy (hT.inj hx hy z)
    by_cases h00 : s 268 0 y = 0 ∧ s 269 0 y = 0
    · rw [if_pos h00.1, if_pos h00.2]
      refine Bt.yes hG rfl ?_
      rw [ey, show (s 268 0 y).toNat = 0 by omega, show rr s p y = 0 by unfold rr; rw [if_neg (by omega)]; omega]
      exact tsub_any _
    have e25 : (if s 268 0 y = 0 then (if s 269 0 y = 0 then ra 1 s else f_X21_isSub_p25 L m (FX21_isSub L m mm) p s x y) else f_X21_isSub_p25 L m (FX21_isSub L m mm) p s x y) = f_X21_isSub_p25 L m (FX21_isSub L m mm) p s x y := by
      by_cases q : s 268 0 y = 0
      · rw [if_pos q, if_neg (fun z => h00 ⟨q, z⟩)]
      · rw [if_neg q]
    rw [e25]
    unfold f_X21_isSub_p25
    simp only [inb_of hb.1, inb_of hby.1, inb_of hb.2.1, inb_of hby.2.1, inb_of hb.2.2.2, inb_of hby.2.2.2]
    have h0 : ¬ ((s 268 0 y).toNat = 0 ∧ rr s p y = 0) := fun z => h00 (by
      have h1 : s 268 0 y = 0 := by omega
      have h2 := z.2
      unfold rr at h2
      rw [if_neg (by omega)] at h2
      exact ⟨h1, by omega⟩)
    have hneT : Ty s p x ≠ ty (s 268 0 y).toNat (rr s p y) (pps s p y) := by rw [← ey]; exact hne
    by_cases hx1 : s 268 0 x = 1
    · rw [if_pos hx1]
      have hm1 := ((hT.vn hx).2.1 hx1).2
      have := sub_p37 (m := m) hS hx hy hG hA (fun q hq => by
        have h9 := hm1 q hq
        unfold rk at hk ⊢
        rw [hfx, if_pos (by omega)] at hk
        rw [if_neg h9]
        split <;> omega) hC1 hg L (pps s p x) [] s rfl hG.rf rfl (by rw [pps_len]; have := hT.rng hx; omega)
      rw [ey, tsub_un (by rw [hfx, hx1]; rfl) (by rw [hpx]; exact hm1) hneT h0, hpx, ← ey]
      exact this
    rw [if_neg hx1]
    have hfx1 : fo (Ty s p x) ≠ 1 := by rw [hfx]; omega
    by_cases hy1 : s 268 0 y = 1
    · rw [if_pos hy1]
      have := sub_p89 (m := m) hS hx hy hG hA (fun q hq => by
        have h9 := hsz q hq
        have h8 := rk_58 (a := Ty s p x) (b := q.2)
        omega) hC1 hg L (pps s p y) [] s rfl hG.rf rfl (by rw [pps_len]; have := hT.rng hy; omega)
      have e1 : (s 268 0 y).toNat = 1 := by omega
      rw [e1] at hneT ey
      rw [ey, tsub_or hfx1 hneT]
      exact this
    rw [if_neg hy1]
    have hy1' : (s 268 0 y).toNat ≠ 1 := by omega
    have hpart : ∀ q ∈ pps s p y, q.1 ≤ 1 ∧ ∃ o r ps, q.2 = ty o r ps := fun q hq => by
      obtain ⟨pre, suf, e⟩ := List.append_of_mem hq
      obtain ⟨z1, z2, z3, z4, z5⟩ := hT.part hy e
      exact ⟨by omega, _, _, _, by rw [← z2]; exact hT.eq z1⟩
    by_cases h22 : s 268 0 x = 2 ∧ s 268 0 y = 2
    · rw [if_pos h22.1, if_pos h22.2]
      have e1 : (s 268 0 y).toNat = 2 := by omega
      rw [e1] at hneT ey
      have e2 : tsub (abf s p) (Ty s p x) (Ty s p y) = all2 (fun (q : Nat × Tr) q' => tsub (abf s p) q.2 q'.2) (pps s p x) (pps s p y) := by
        rw [ey, tsub_tt (by rw [hfx, h22.1]; rfl) hneT, hpx]
      rw [e2]
      by_cases hmm : s 271 0 x = s 271 0 y
      · rw [if_pos hmm]
        exact sub_p173 (m := m) hS hx hy hG hA (fun q hq q' hq' => by
          have h9 := hsz q' hq'
          have h8 := rk_58 (a := q.2) (b := q'.2)
          omega) hC1 hg L (pps s p x) [] (pps s p y) [] s rfl rfl rfl (by rw [pps_len, pps_len, hmm]) hG.rf rfl (by rw [pps_len]; have := hT.rng hx; omega)
      · rw [if_neg hmm]
        obtain ⟨L8, rfl⟩ : ∃ k, L = k + 1 := ⟨L - 1, by omega⟩
        exact Bt.no hG (sub_173_0 hG hx) (all2_len (by rw [pps_len, pps_len]; omega))
    have up : ∀ τ, fo (Ty s p x) = 0 → re (Ty s p x) ≠ 0 → tabove (abf s p) (Ty s p x) = some τ → τ = tput (pa (Ty s p x)) (abf s p (re (Ty s p x))) := fun τ q1 q2 q3 => by
      unfold tabove at q3
      rw [if_neg (by omega), if_neg (by omega), if_pos ⟨q1, q2⟩] at q3
      exact (Option.some.inj q3).symm
    have hlt : s 268 0 x = 0 → re (Ty s p x) < (s 242 p 0).toNat := fun q => by
      rw [hT.re hx (by omega)]
      have := ((hT.vn hx).1 q).1
      have := zx.2.1
      omega
    by_cases hnn : (s 268 0 x = 0 ∧ s 268 0 y = 0) ∧ s 269 0 x = s 269 0 y
    · obtain ⟨⟨h1, h2⟩, h3⟩ := hnn
      have er : re (Ty s p x) = rr s p y := by rw [hT.re hx (by omega)]; unfold rr; rw [if_neg (by omega), h3]
      have er0 : re (Ty s p x) ≠ 0 := by rw [hT.re hx (by omega)]; omega
      have e1 : (s 268 0 y).toNat = 0 := by omega
      have hf0 : fo (Ty s p x) = 0 := by rw [hfx]; omega
      rw [if_neg (by omega), if_pos h1, if_pos h2, if_pos h3]
      obtain ⟨b2, hb2⟩ : ∃ b, b = tsub (abf s p) (tput (pa (Ty s p x)) (abf s p (re (Ty s p x)))) (Ty s p y) := ⟨_, rfl⟩
      have key : tsub (abf s p) (Ty s p x) (Ty s p y) = (all2 (twi (abf s p)) (pps s p x) (pps s p y) || b2) := by
        cases ha : all2 (twi (abf s p)) (pps s p x) (pps s p y) with
        | true =>
          rw [ey, tsub_n0 hf0 hy1' h0]
          have : tcl (abf s p) (Ty s p x) (rr s p y) (pps s p y) = true := by
            unfold tcl clm
            rw [if_pos er, hpx]; exact ha
          rw [this, e1]; simp
        | false =>
          rw [hb2, ey]
          exact tsub_up hAO hf0 (hlt h1) er0 hneT hy1' h0 (fun _ _ => by rw [hpx]; exact ha) hpart
      rw [key]
      refine sub_p265 (m := m) hW hx hy hG hA (fun q hq => by have := hsz q hq; omega) hC1 hg (b2 := b2) (fun cur hX h9 => ?_) L (pps s p x) [] (pps s p y) [] s rfl rfl rfl (by
          have g1 := ((hT.vn hx).1 h1).2
          have g2 := ((hT.vn hy).1 h2).2
          rw [h3] at g1; omega) hG.rf rfl (by rw [pps_len]; have := hT.rng hx; omega)
      have hGc := hG.u hX (by rw [h9]; exact hG.2.2.2)
      obtain ⟨hAc, habc⟩ := hA.u hG hX
      have ec1 : Ty cur p x = Ty s p x := hX.2.2.2.2.1 x hx
      have ec2 : Ty cur p y = Ty s p y := hX.2.2.2.2.1 y hy
      refine Bt.tr hX h9 (sub_p315 hL hm hS (hx.u hX) (hy.u hX) hGc hAc ((hC.z hX).wd (by omega) (by omega)) (by omega) (by rw [ec1, ec2]; exact hk) (fun τ hτ => ?_) (fun hn => ?_) (by rw [ec1]; exact hfx1))
      · rw [habc, ec1] at hτ
        rw [habc, ec2, hb2, up τ hf0 er0 hτ]
      · rw [habc, ec1] at hn
        unfold tabove at hn
        rw [if_neg (by omega), if_neg (by omega), if_pos ⟨hf0, er0⟩] at hn
        cases hn
    have fin : Bt p s (f_X21_isSub_p315 L m (FX21_isSub L m mm) p s x y) (tsub (abf s p) (Ty s p x) (Ty s p y)) := by
      refine sub_p315 hL hm hS hx hy hG hA (hC.wd (by omega) (by omega)) hg hk (fun τ hτ => ?_) (fun hn => ?_) hfx1
      · by_cases q2 : s 268 0 x = 2
        · unfold tabove at hτ
          rw [if_pos (by omega)] at hτ
          cases hτ
          rw [ey]
          refine (tsub_base 3 hAO.2.1 (by decide) hy1' h0 (fun q q' => ?_)).trans (tsub_tup (by omega) (by omega) hy1' h0).symm
          have g2 := ((hT.vn hy).1 (by omega)).2
          rw [show s 269 0 y = 3 by unfold rr at q'; rw [if_neg (by omega)] at q'; omega, hG.2.2.1.2.2.2 3 (by omega) (by omega)] at g2
          exact List.length_eq_zero_iff.mp (by simpa using g2)
        · by_cases q3 : s 268 0 x = 3
          · unfold tabove at hτ
            rw [if_neg (by omega), if_pos (by omega)] at hτ
            cases hτ
            rw [ey]
            refine (tsub_base 4 hAO.2.2.1 (by decide) hy1' h0 (fun q q' => ?_)).trans (tsub_fun (by omega) hneT hy1' h0).symm
            have g2 := ((hT.vn hy).1 (by omega)).2
            rw [show s 269 0 y = 4 by unfold rr at q'; rw [if_neg (by omega)] at q'; omega, hG.2.2.1.2.2.2 4 (by omega) (by omega)] at g2
            exact List.length_eq_zero_iff.mp (by simpa using g2)
          · by_cases q0 : s 268 0 x = 0
            · have hf0 : fo (Ty s p x) = 0 := by omega
              by_cases r0 : re (Ty s p x) = 0
              · unfold tabove at hτ
                rw [if_neg (by omega), if_neg (by omega), if_neg (fun z => z.2 r0)] at hτ
                cases hτ
              · rw [up τ hf0 r0 hτ, ey]
                refine (tsub_up hAO hf0 (hlt q0) r0 hneT hy1' h0 (fun w1 w2 => ?_) hpart).symm
                refine absurd ⟨⟨q0, by omega⟩, ?_⟩ hnn
                rw [hT.re hx (by omega)] at w2
                unfold rr at w2
                rw [if_neg (by omega)] at w2
                omega
            · unfold tabove at hτ
              rw [if_neg (by omega), if_neg (by omega), if_neg (fun z => q0 (by have := z.1; omega))] at hτ
              cases hτ
      · unfold tabove at hn
        by_cases q2 : s 268 0 x = 2
        · rw [if_pos (by omega)] at hn; cases hn
        · rw [if_neg (by omega)] at hn
          by_cases q3 : s 268 0 x = 3
          · rw [if_pos (by omega)] at hn; cases hn
          · rw [if_neg (by omega)] at hn
            by_cases q0 : s 268 0 x = 0
            · have hf0 : fo (Ty s p x) = 0 := by omega
              by_cases r0 : re (Ty s p x) = 0
              · rw [ey, tsub_n0 hf0 hy1' h0, teq_ne hneT, Bool.false_or]
                by_cases w : (s 268 0 y).toNat = 0
                · have : tcl (abf s p) (Ty s p x) (rr s p y) (pps s p y) = false := by
                    unfold tcl clm
                    rw [if_neg (fun z => h0 ⟨w, by omega⟩), if_pos r0]
                  rw [this, Bool.and_false]
                · rw [beq_eq_false_iff_ne.mpr w]; rfl
              · rw [if_pos ⟨hf0, r0⟩] at hn; cases hn
            · rw [ey]
              exact tsub_var (by omega) hneT hy1' h0
    by_cases w1 : s 268 0 x = 2
    · rw [if_pos w1, if_neg (fun z => h22 ⟨w1, z⟩), if_neg (by omega)]
      exact fin
    · rw [if_neg w1]
      by_cases w2 : s 268 0 x = 0
      · rw [if_pos w2]
        by_cases w3 : s 268 0 y = 0
        · rw [if_pos w3, if_neg (fun z => hnn ⟨⟨w2, w3⟩, z⟩)]
          exact fin
        · rw [if_neg w3]; exact fin
      · rw [if_neg w2]; exact fin
/-- whether one type is sub of another one -/
theorem r_isSub (hG : TG s p) (hA : AB s p) (hx : Id s p x) (hy : Id s p y) (hd : tdp (Ty s p y) ≤ 70) (hC : Cap s p 25000 20000) (hg : s 279 p 0 + 500 ≤ 4000) (hL : 400000 < L) (hm : 600 ≤ m ∧ m ≤ 600) : Bt p s (f_X21_isSub L m s p x y) (tsub (abf s p) (Ty s p x) (Ty s p y)) := by
  have := rk_58 (a := Ty s p x) (b := Ty s p y)
  exact (r_isSub0 hL (by omega) (8 * m)).1 s x y hG hA hx hy (by omega) (hC.wd (by omega) (by omega)) hg
end Rp0
