/-! ===== the reference's types: made, cut ===== -/
set_option maxRecDepth 100000
section Rg0
variable {s s' t : Sg} {p x y i j a o r h v w : Int} {L m n c d c' d' q : Nat}
theorem TI.inj (hT : TI s p) (hi : Id s p i) (hj : Id s p j) (e : Ty s p i = Ty s p j) : i = j := by
  obtain ⟨n, t1, _, _, _, _, _, t7⟩ := hT
  have a1 := hi.1; have a2 := hi.2; have b1 := hj.1; have b2 := hj.2
  have := t7 i.toNat j.toNat (by omega) (by omega) (by rwa [show ((i.toNat : Nat) : Int) = i by omega, show ((j.toNat : Nat) : Int) = j by omega])
  omega
theorem TI.hash (hT : TI s p) (hx : Id s p x) : s 273 0 x = hsh (s 268 0 x) (s 269 0 x) (pts s x) := by
  have h1 := (hT.tn hx).2.2.2.2.2.1
  rwa [show ((x.toNat : Nat) : Int) = x by have := hx.1; omega] at h1
theorem ty_of_pts (hT : TI s p) (hx : Id s p x) (hG : GA s p a) (hq : s 279 p 0 = a + q) (e1 : s 268 0 x = o) (e2 : s 269 0 x = r) (e3 : pts s x = gin s p a q) : Ty s p x = ty o.toNat (rq s p o r) (gps s p a q) := by
  obtain ⟨z1, z2, z3, z4⟩ := hT.tn2 hx
  obtain ⟨y1, y2⟩ := (pts_gin z3).mp e3
  rw [hT.eq hx]
  refine ty_inj.mpr ⟨by rw [e1], by unfold rr rq; rw [e1, e2], ?_⟩
  unfold pps gps
  rw [y1, show ((q : Int).toNat) = q by omega]
  refine List.map_congr_left fun k hk => ?_
  have hk := List.mem_range.mp hk
  have h5 := hG.2 (a + k) (by omega) (by omega)
  rw [y2 k (by omega) (by omega), show (2 * s 277 p (a + k) + s 278 p (a + k)) / 2 = s 277 p (a + k) by omega, show (2 * s 277 p (a + k) + s 278 p (a + k)) % 2 = s 278 p (a + k) by omega]
theorem pts_of_ty (hT : TI s p) (hx : Id s p x) (hG : GA s p a) (hq : s 279 p 0 = a + q) (ho : 0 ≤ o) (hr : 0 ≤ r) (hfn : s 268 0 x = 3 → o = 3 → rc_ s p (s 269 0 x) = rc_ s p r → s 269 0 x = r) (e : Ty s p x = ty o.toNat (rq s p o r) (gps s p a q)) : s 268 0 x = o ∧ s 269 0 x = r ∧ pts s x = gin s p a q := by
  obtain ⟨z1, z2, z3, z4⟩ := hT.tn2 hx
  rw [hT.eq hx] at e
  obtain ⟨e1, e2, e3⟩ := ty_inj.mp e
  have e1' : s 268 0 x = o := by omega
  refine ⟨e1', ?_, (pts_gin z3).mpr ?_⟩
  · unfold rr rq at e2
    rw [e1'] at e2
    by_cases h3 : o = 3
    · rw [if_pos h3, if_pos h3] at e2; exact hfn (e1'.trans h3) h3 e2
    · rw [if_neg h3, if_neg h3] at e2; omega
  · have hl := congrArg List.length e3
    unfold pps gps at hl e3
    simp at hl
    refine ⟨by omega, fun k k0 k1 => ?_⟩
    rw [hl] at e3
    have h8 := List.map_inj_left.mp e3
    have h9 := h8 k.toNat (List.mem_range.mpr (by omega))
    simp only [Prod.mk.injEq] at h9
    rw [show ((k.toNat : Nat) : Int) = k by omega] at h9
    obtain ⟨y1, y2, y3⟩ := z4 k k0 (by omega)
    have h5 := hG.2 (a + k) (by omega) (by omega)
    have h6 := hT.inj y2 h5.1 h9.2
    omega
theorem made_p22 (hL : TL s p) (hT : TI s p) (hG : GA s p a) (hq : s 279 p 0 = a + q) (hl : 400000 < L) (hf : f_X21_fresh L m s p o r a h = ra w s') (h0 : 0 ≤ w) : ∀ (L9 : Nat) (l : List Nat) (v : Int), Chn s v l → (∀ i ∈ l, (i : Int) < s 266 p 0) → l.length < L9 →
    (∃ i : Nat, i ∈ l ∧ (s 273 0 i = h ∧ s 268 0 i = o ∧ s 269 0 i = r ∧ pts s i = gin s p a q) ∧ f_X21_made_p22 L m p L9 s o r a h v = ra i (up s 279 p 0 a)) ∨
    ((∀ i ∈ l, ¬ (s 273 0 (i : Nat) = h ∧ s 268 0 (i : Nat) = o ∧ s 269 0 (i : Nat) = r ∧ pts s (i : Nat) = gin s p a q)) ∧ f_X21_made_p22 L m p L9 s o r a h v = ra w (up s' 279 p 0 a))
  | 0, l, v, _, _, hh => by omega
  | L9 + 1, [], v, hc, _, _ => by
    refine Or.inr ⟨fun i hi => (nomatch hi), ?_⟩
    have hv : v = -1 := hc
    unfold f_X21_made_p22
    rw [if_pos (by omega), if_pos (by omega), hf]
    rfl
  | L9 + 1, i :: l, v, hc, hi, hn => by
    obtain ⟨rfl, hc2⟩ := hc
    have hi0 := hi i List.mem_cons_self
    have hcap := hT.cap
    have hid : Id s p i := ⟨by omega, hi0⟩
    unfold f_X21_made_p22
    rw [if_neg (by omega), inb_of ⟨by omega, by rw [hL.2.1.2.2.2.2.2.1]; omega⟩]
    have hb : 0 ≤ (i : Int) ∧ (i : Int) < s (1000 + 276) 0 0 := ⟨by omega, by rw [hL.2.1.2.2.2.2.2.2]; omega⟩
    have ih := made_p22 hL hT hG hq hl hf h0 L9 l (s 276 0 i) hc2 (fun j hj => hi j (List.mem_cons_of_mem _ hj)) (by simp at hn; omega)
    have nxt : ¬ (s 273 0 i = h ∧ s 268 0 i = o ∧ s 269 0 i = r ∧ pts s i = gin s p a q) → (∃ i' : Nat, i' ∈ i :: l ∧ (s 273 0 i' = h ∧ s 268 0 i' = o ∧ s 269 0 i' = r ∧ pts s i' = gin s p a q) ∧ f_X21_made_p22 L m p L9 s o r a h (s 276 0 i) = ra i' (up s 279 p 0 a)) ∨
        ((∀ i' ∈ i :: l, ¬ (s 273 0 (i' : Nat) = h ∧ s 268 0 (i' : Nat) = o ∧ s 269 0 (i' : Nat) = r ∧ pts s (i' : Nat) = gin s p a q)) ∧ f_X21_made_p22 L m p L9 s o r a h (s 276 0 i) = ra w (up s' 279 p 0 a)) := fun hne => by
      rcases ih with ⟨i', h1, h2, h3⟩ | ⟨h1, h2⟩
      · exact Or.inl ⟨i', List.mem_cons_of_mem _ h1, h2, h3⟩
      · refine Or.inr ⟨fun i' hi' => ?_, h2⟩
        rcases List.mem_cons.mp hi' with rfl | h4
        · exact hne
        · exact h1 i' h4
    by_cases h1 : s 273 0 i = h
    · rw [if_pos h1]
      rcases r_isAlike (m := m) hL hT hid hG hq hl (o := o) (r := r) with ⟨e, h2⟩ | ⟨e, h2⟩
      · rw [e, rb_ra, if_neg (by decide), if_neg (by omega)]
        exact Or.inl ⟨i, List.mem_cons_self, ⟨h1, h2⟩, rfl⟩
      · rw [e, rb_ra, if_pos rfl, inb_of hb]
        exact nxt fun z => h2 z.2
    · rw [if_neg h1, inb_of hb]
      exact nxt fun z => h1 z.1
theorem bk_len : ∀ n, (bk s h n).length ≤ n
  | 0 => Nat.le_refl _
  | n + 1 => by
    have := bk_len n
    unfold bk
    split <;> simp <;> omega
/-- gathered from a place on: a type -/
theorem r_made (hL : TL s p) (hT : TI s p) (hG : GA s p a) (hq : s 279 p 0 = a + q) (hC : Cap s p 1 q) (ho : 0 ≤ o ∧ o ≤ 4) (hr : 0 ≤ r ∧ r < 100000) (hl : 400000 < L) (hV : VN s p o r (gps s p a q)) (hfn : ∀ x, Id s p x → s 268 0 x = 3 → o = 3 → rc_ s p (s 269 0 x) = rc_ s p r → s 269 0 x = r) : ∃ v s', f_X21_made L m s p o r a = ra v s' ∧ TX p 1 q s s' ∧ Id s' p v ∧ Ty s' p v = ty o.toNat (rq s p o r) (gps s p a q) ∧ s' 279 p 0 = a := by
  have ha := hG.1
  have hcap := hT.cap
  unfold f_X21_made
  rw [cls_of hL.1, r_hashOf hL hG hq (by omega), rb_ra, an3_14]
  have hm := Int.emod_nonneg (hsh o r (gin s p a q)) (b := 16384) (by decide)
  have hm2 := Int.emod_lt_of_pos (hsh o r (gin s p a q)) (b := 16384) (by decide)
  rw [inb_of ⟨hm, by rw [hL.2.2.2.1]; exact hm2⟩]
  have hh : c3 (hsh o r (gin s p a q)) := by
    have : ∀ (l : List Int) (z : Int), c3 z → c3 (l.foldl hs1 z) := fun l => by
      induction l with
      | nil => exact fun z h => h
      | cons b l ih => exact fun z _ => ih _ (w3_c _)
    exact this _ _ (w3_c _)
  obtain ⟨s1, f1, f2⟩ := r_fresh (m := m) (L := L) hL hT hG hq hC ho hr hh (by omega)
  obtain ⟨n, t1, t2, t3, t4, t5, t6, t7⟩ := id hT
  have hlen := bk_len (s := s) (h := hsh o r (gin s p a q) % 16384) n
  rcases made_p22 (m := m) (w := s 266 p 0) hL hT hG hq hl f1 (by omega) L _ _ (t6 _ hm hm2) (fun i hi => by have := bk_lt n _ i hi; omega) (by omega) with ⟨i, h1, h2, h3⟩ | ⟨h1, h2⟩
  · have hi := bk_lt n _ i h1
    have hid : Id s p i := ⟨by omega, by omega⟩
    have hK : Kt_ s (up s 279 p 0 a) := Kt_.rf.u (by decide)
    have hX := TX.k hT hK (Fk.rf.up (by decide +kernel)) (fun j j0 j1 => by rw [up_k (by decide), up_k (by decide)]; exact ⟨rfl, rfl⟩)
    refine ⟨i, _, h3, ⟨hX.1, hX.2.1, by have := hX.2.2.1; omega, by have := hX.2.2.2.1; omega, hX.2.2.2.2⟩, hid.u hX, ?_, up_me⟩
    rw [Ty_k hK]
    exact ty_of_pts hT hid hG hq h2.2.1 h2.2.2.1 h2.2.2.2
  · obtain ⟨g1, g2⟩ := f2.ti hT hG hq hC ho hr hV (fun x hx e => by
      have h4 := pts_of_ty hT hx hG hq ho.1 hr.1 (hfn x hx) e
      have hx0 := hx.1; have hx1 := hx.2
      have h5 := hT.hash hx
      rw [h4.1, h4.2.1, h4.2.2] at h5
      have ex : ((x.toNat : Nat) : Int) = x := by omega
      have h6 := bk_mem (s := s) (h := hsh o r (gin s p a q) % 16384) n x.toNat (by omega) (by rw [ex, h5])
      exact h1 _ h6 (by rw [ex]; exact ⟨h5, h4⟩))
    have hK : Kt_ s1 (up s1 279 p 0 a) := Kt_.rf.u (by decide)
    have hX := TX.k g1.1 hK (Fk.rf.up (by decide +kernel)) (fun j j0 j1 => by rw [up_k (by decide), up_k (by decide)]; exact ⟨rfl, rfl⟩)
    have h279 : s1 279 = s 279 := f2.1.g 279 (by decide +kernel)
    have hX2 := g1.tr (by rw [h279]; exact Int.le_refl _) hX
    have hid : Id s1 p (s 266 p 0) := ⟨by omega, by rw [f2.2.1]; omega⟩
    exact ⟨s 266 p 0, _, h2, hX2, hid.u hX, by rw [Ty_k hK]; exact g2, up_me⟩
end Rg0
