/-! ===== the reference's types: tables that grow, lines aside ===== -/
set_option maxRecDepth 100000
def kU : Nat := kT ||| (kL ||| km [305, 306, 307, 308, 309, 310])
/-- more types may be there; what was gathered ahead of a place stays; the line is where it was -/
def TY (p a : Int) (c d : Nat) (s s' : Sg) : Prop := TI s' p ∧ Fk kU s s' ∧ (s 266 p 0 ≤ s' 266 p 0 ∧ s' 266 p 0 ≤ s 266 p 0 + c) ∧ s' 267 p 0 ≤ s 267 p 0 + d ∧ (∀ i, Id s p i → Ty s' p i = Ty s p i) ∧ (∀ j, 0 ≤ j → j < a → s' 277 p j = s 277 p j ∧ s' 278 p j = s 278 p j) ∧ (∀ i, Id s p i → s' 268 0 i = s 268 0 i ∧ s' 269 0 i = s 269 0 i ∧ s' 270 0 i = s 270 0 i ∧ s' 271 0 i = s 271 0 i ∧ s' 272 0 i = s 272 0 i ∧ ∀ k, 0 ≤ k → k < s 271 0 i → s' 274 0 (s 270 0 i + k) = s 274 0 (s 270 0 i + k)) ∧ s' 281 p 0 = s 281 p 0
/-- a type is made, perhaps by what is shown -/
def My (p : Int) (c d : Nat) (s : Sg) (r : Ro) (P : Tr → Prop) : Prop := ∃ v s', r = ra v s' ∧ TY p (s 279 p 0) c d s s' ∧ Id s' p v ∧ P (Ty s' p v) ∧ s' 279 p 0 = s 279 p 0
section Ru0
variable {s s' t : Sg} {p a a' x y i j o r : Int} {L m c d c' d' mm : Nat} {l k : List Nat} {ro : Ro} {τ : Tr}
theorem TX.yy (h : TX p c d s s') (ha : a ≤ s 279 p 0) : TY p a c d s s' := by
  obtain ⟨h1, h2, h3, h4, h5, h6, h7⟩ := h
  exact ⟨h1, h2.sub (K2 := kL ||| km [305, 306, 307, 308, 309, 310]) rfl, h3, h4, h5, fun j j0 j1 => h6 j j0 (by omega), h7, by rw [h2.g 281 (by decide +kernel)]⟩
theorem Mk.yy (h : Mk p c d s ro τ) : My p c d s ro (fun t => t = τ) := by
  obtain ⟨v, s', e, h1, h2, h3, h4⟩ := h
  exact ⟨v, s', e, h1.yy (Int.le_refl _), h2, h3, h4⟩
theorem TY.id (hX : TY p a c d s t) (hx : Id s p x) : Id t p x := ⟨hx.1, by have := hx.2; have := hX.2.2.1.1; omega⟩
theorem TY.rf (hT : TI s p) : TY p a 0 0 s s := ⟨hT, Fk.rf, ⟨by omega, by omega⟩, by omega, fun _ _ => rfl, fun _ _ _ => ⟨rfl, rfl⟩, fun _ _ => ⟨rfl, rfl, rfl, rfl, rfl, fun _ _ _ => rfl⟩, rfl⟩
theorem TY.tr (h : TY p a c d s s') (h2 : TY p a' c' d' s' t) (ha : a ≤ a') : TY p a (c + c') (d + d') s t := by
  have hid := fun {x} => TY.id (x := x) h
  obtain ⟨a1, a2, a3, a4, a5, a6, a7, a8⟩ := h
  obtain ⟨b1, b2, b3, b4, b5, b6, b7, b8⟩ := h2
  refine ⟨b1, a2.tr b2, ⟨by omega, by omega⟩, by omega, fun i hi => ?_, fun j h0 hj => ?_, fun i hi => ?_, by rw [b8, a8]⟩
  · rw [b5 i (hid hi), a5 i hi]
  · have := b6 j h0 (by omega)
    have h3 := a6 j h0 hj
    exact ⟨this.1.trans h3.1, this.2.trans h3.2⟩
  · obtain ⟨q1, q2, q3, q4, q5, q6⟩ := a7 i hi
    obtain ⟨r1, r2, r3, r4, r5, r6⟩ := b7 i (hid hi)
    refine ⟨r1.trans q1, r2.trans q2, r3.trans q3, r4.trans q4, r5.trans q5, fun k h0 hk => ?_⟩
    rw [← q6 k h0 hk, ← q3, r6 k h0 (by omega)]
theorem TY.wd (h : TY p a c d s s') (hc : c ≤ c') (hd : d ≤ d') : TY p a c' d' s s' := ⟨h.1, h.2.1, ⟨h.2.2.1.1, by have := h.2.2.1.2; omega⟩, by have := h.2.2.2.1; omega, h.2.2.2.2⟩
theorem TY.lo (h : TY p a c d s s') (ha : a' ≤ a) : TY p a' c d s s' := by
  obtain ⟨a1, a2, a3, a4, a5, a6, a7, a8⟩ := h
  exact ⟨a1, a2, a3, a4, a5, fun j h0 hj => a6 j h0 (by omega), a7, a8⟩
theorem kU_big : kU < 2 ^ 1000 := by decide +kernel
theorem TG.yy (hG : TG s p) (hX : TY p a c d s s') (h0 : 0 ≤ s' 279 p 0) : TG s' p := by
  have hF := hX.2.1.big kU_big (by decide +kernel)
  obtain ⟨h1, h2, h3, h4⟩ := hG
  refine ⟨?_, hX.1, ?_, h0⟩
  · unfold TL at *
    simp only [hF 0 (Or.inl rfl), hF 1268 (by omega), hF 1269 (by omega), hF 1270 (by omega), hF 1271 (by omega), hF 1272 (by omega), hF 1273 (by omega), hF 1274 (by omega), hF 1275 (by omega), hF 1276 (by omega), hF 1277 (by omega), hF 1278 (by omega)]
    exact h1
  · unfold NB at *
    rw [hF 1245 (by omega), hX.2.1.g 242 (by decide +kernel), hX.2.1.g 245 (by decide +kernel)]
    exact h3
theorem AB.yy (h : AB s p) (hX : TY p a c d s s') : AB s' p ∧ abf s' p = abf s p := by
  have e42 := hX.2.1.g 242 (by decide +kernel)
  have e45 := hX.2.1.g 245 (by decide +kernel)
  have e46 := hX.2.1.g 246 (by decide +kernel)
  have e12 := hX.2.1.g 1246 (by decide +kernel)
  obtain ⟨h1, h2, h4⟩ := h
  refine ⟨⟨by rw [e12]; exact h1, by rw [e46]; exact h2, fun r hr h0 hp => ?_⟩, ?_⟩
  · rw [e42] at hr; rw [e46] at hp
    obtain ⟨g1, g2⟩ := h4 r hr h0 hp
    rw [e45, e46, hX.2.2.2.2.1 _ g1]
    exact ⟨hX.id g1, g2⟩
  · funext r
    unfold abf
    rw [e42, e46]
    by_cases q : (r : Int) < s 242 p 0 ∧ 0 ≤ s 246 p r
    · rw [if_pos q, if_pos q]
      by_cases h0 : r = 0
      · subst h0
        exact absurd q.2 (by show ¬ ((0 : Int) ≤ s 246 p 0); omega)
      · exact hX.2.2.2.2.1 _ (h4 r q.1 h0 q.2).1
    · rw [if_neg q, if_neg q]
theorem NM.yy (hN : NM s p) (h : TY p a c d s s') : NM s' p ∧ nbf s' p = nbf s p := by
  have g := fun k hk => h.2.1.g k hk
  unfold NM nbf at *
  rw [g 1243 (by decide +kernel), g 1244 (by decide +kernel), g 1257 (by decide +kernel), g 1258 (by decide +kernel), g 256 (by decide +kernel), g 242 (by decide +kernel), g 243 (by decide +kernel), g 244 (by decide +kernel), g 257 (by decide +kernel), g 258 (by decide +kernel)]
  exact ⟨hN, rfl⟩
theorem LI.yy (hN : LI s p) (h : TY p a c d s s') : LI s' p := by
  have g := fun k hk => h.2.1.g k hk
  unfold LI at *
  rw [g 1280 (by decide +kernel), g 1282 (by decide +kernel), h.2.2.2.2.2.2.2]
  exact hN
theorem TY.pps (hX : TY p a c d s t) (hT : TI s p) (hx : Id s p x) : pps t p x = pps s p x := by
  rw [← hT.pa hx, ← hX.1.pa (hX.id hx), hX.2.2.2.2.1 x hx]
theorem TY.ty (hX : TY p a c d s t) (hx : Id s p x) : Ty t p x = Ty s p x := hX.2.2.2.2.1 x hx
theorem TY.ids (hX : TY p a c d s t) (hx : Id s p x) : t 268 0 x = s 268 0 x ∧ t 269 0 x = s 269 0 x ∧ t 270 0 x = s 270 0 x ∧ t 271 0 x = s 271 0 x ∧ (∀ k, 0 ≤ k → k < s 271 0 x → t 274 0 (s 270 0 x + k) = s 274 0 (s 270 0 x + k)) := by
  obtain ⟨z1, z2, z3, z4, z5, z6⟩ := hX.2.2.2.2.2.2.1 x hx
  exact ⟨z1, z2, z3, z4, z6⟩
theorem Cap.yy (h : Cap s p (c + c') (d + d')) (hX : TY p a c d s s') : Cap s' p c' d' := by
  obtain ⟨h1, h2⟩ := h
  have := hX.2.2.1.2; have := hX.2.2.2.1
  exact ⟨by omega, by omega⟩
/-- only what is gathered from a place on, and the line, are others -/
theorem TY.kt (hT : TI s p) (hK : Kt_ s s') (hF : Fk kU s s') (hg : ∀ j, 0 ≤ j → j < a → s' 277 p j = s 277 p j ∧ s' 278 p j = s 278 p j) (h8 : s' 281 p 0 = s 281 p 0) : TY p a 0 0 s s' := by
  refine ⟨hT.k hK, hF, by rw [hK.2.2.2.1]; omega, by rw [hK.2.2.2.2.1]; omega, fun i _ => Ty_k hK i, hg, fun i _ => ?_, h8⟩
  obtain ⟨h0, h1, h2, h3, h4, h5, h6, h7, h8, h9, h10, h11, h12, h13⟩ := hK
  rw [h5, h6, h7, h8, h9, h11]
  exact ⟨rfl, rfl, rfl, rfl, rfl, fun _ _ _ => rfl⟩
/-- ids in a row of what is gathered -/
def RI (s : Sg) (p j : Int) (l : List Int) : Prop := ∀ i : Nat, i < l.length → s 277 p (j + i) = l.getD i 0
theorem RI.snoc {F : List Int} (h : RI s p j F) (hx : s 277 p (j + F.length) = x) : RI s p j (F ++ [x]) := fun i hi => by
  rw [List.length_append] at hi
  rw [List.getD_eq_getElem?_getD]
  by_cases q : i < F.length
  · rw [List.getElem?_append_left q, ← List.getD_eq_getElem?_getD]; exact h i q
  · have : i = F.length := by simp at hi; omega
    rw [this, hx]; simp
theorem RI.eq {F : List Int} (h : RI s p j F) (e : ∀ q, j ≤ q → q < j + F.length → s' 277 p q = s 277 p q) : RI s' p j F := fun i hi => by rw [e _ (by omega) (by omega)]; exact h i hi
end Ru0
