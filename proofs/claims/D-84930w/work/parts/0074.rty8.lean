/-! ===== the reference's types: put ===== -/
set_option maxRecDepth 100000
/-- a part with pieces put -/
def tpp (args : List (Nat × Tr)) (q : Nat × Tr) : Nat × Tr := if fo q.2 = 4 then (bor q.1 (args.getD (re q.2) (0, lf 0)).1, tput args q.2) else (q.1, tput args q.2)
section Rj0
variable {s s' t : Sg} {p x y i j a o r h v w b : Int} {L m n c d c' d' q : Nat} {l : List (Nat × Tr)} {ro : Ro} {τ : Tr}
theorem TI.wt (hT : TI s p) : ∀ (f : Nat) (i : Nat), Id s p i → i < f → Wt_ f (Ty s p i)
  | 0, i, _, h => by omega
  | f + 1, i, hi, h => by
    unfold Wt_
    have e := hT.eq hi
    refine ⟨by rw [e, fo_ty, re_ty, pa_ty], fun q hq => ?_⟩
    rw [e, pa_ty] at hq
    unfold pps at hq
    obtain ⟨k, hk, rfl⟩ := List.mem_map.mp hq
    have hk := List.mem_range.mp hk
    obtain ⟨_, _, z3, z4⟩ := hT.tn2 hi
    obtain ⟨y1, y2, y3⟩ := z4 k (by omega) (by omega)
    have := TI.wt hT f (s 274 0 (s 270 0 i + k) / 2).toNat (by rw [show (((s 274 0 (s 270 0 i + k) / 2).toNat : Nat) : Int) = s 274 0 (s 270 0 i + k) / 2 by omega]; exact y2) (by omega)
    rwa [show (((s 274 0 (s 270 0 i + k) / 2).toNat : Nat) : Int) = s 274 0 (s 270 0 i + k) / 2 by omega] at this
theorem TI.wt' (hT : TI s p) (hx : Id s p x) : Wt_ (x.toNat + 1) (Ty s p x) := by
  have := hT.wt (x.toNat + 1) x.toNat (by rw [show ((x.toNat : Nat) : Int) = x by have := hx.1; omega]; exact hx) (by omega)
  rwa [show ((x.toNat : Nat) : Int) = x by have := hx.1; omega] at this
theorem TI.fo (hT : TI s p) (hx : Id s p x) : fo (Ty s p x) = (s 268 0 x).toNat := by rw [hT.eq hx, fo_ty]
theorem TI.re (hT : TI s p) (hx : Id s p x) (h : s 268 0 x ≠ 3) : re (Ty s p x) = (s 269 0 x).toNat := by rw [hT.eq hx, re_ty]; unfold rr; rw [if_neg h]
theorem TI.pa (hT : TI s p) (hx : Id s p x) : pa (Ty s p x) = pps s p x := by rw [hT.eq hx, pa_ty]
theorem pps_len : (pps s p x).length = (s 271 0 x).toNat := by simp [pps]
theorem pps_get {k : Nat} (h : k < (pps s p x).length) : (pps s p x)[k] = ((s 274 0 (s 270 0 x + k) % 2).toNat, Ty s p (s 274 0 (s 270 0 x + k) / 2)) := by
  unfold pps at h ⊢
  rw [List.getElem_map, List.getElem_range]
theorem TI.vn (hT : TI s p) (hx : Id s p x) : VN s p (s 268 0 x) (s 269 0 x) (pps s p x) := by
  have h1 := (hT.tn hx).2.2.2.2.2.2
  rwa [show ((x.toNat : Nat) : Int) = x by have := hx.1; omega] at h1
theorem TI.hv (hT : TI s p) (hx : Id s p x) : (4095 < s 272 0 x) ↔ thv (Ty s p x) = true := by
  rw [hT.sz hx]
  cases thv (Ty s p x) <;> simp <;> omega
theorem TI.sz2 (hT : TI s p) (hx : Id s p x) : s 272 0 x % 4096 = (min 1000 (tsz (Ty s p x)) : Nat) := by
  rw [hT.sz hx]
  split <;> omega
theorem r_hasVar (hG : TG s p) (hx : Id s p x) : f_X21_hasVariableOf L m s p x = ra (if thv (Ty s p x) = true then 1 else 0) s := by
  have hc := hG.2.1.cap
  have h0 := hx.1; have h1 := hx.2
  rw [r_hasVariableOf hG.1 (by omega)]
  congr 1
  have := hG.2.1.hv hx
  by_cases q : 4095 < s 272 0 x
  · rw [if_pos q, if_pos (this.mp q)]
  · rw [if_neg q, if_neg (fun z => q (this.mpr z))]
theorem r_part (hG : TG s p) (hx : Id s p x) (hk : 0 ≤ j ∧ j < s 271 0 x) : f_X21_partOf L m s p (s 270 0 x + j) = ra (s 274 0 (s 270 0 x + j) / 2) s := by
  have hr := hG.2.1.rng hx
  obtain ⟨y1, y2, y3⟩ := (hG.2.1.tn2 hx).2.2.2 j hk.1 hk.2
  have hc := hG.2.1.cap
  have h1 := y2.2
  exact r_partOf hG.1 (by omega) (by omega)
theorem r_below (hG : TG s p) (hx : Id s p x) (hk : 0 ≤ j ∧ j < s 271 0 x) : f_X21_belowOf L m s p (s 270 0 x + j) = ra (s 274 0 (s 270 0 x + j) % 2) s := by
  have hr := hG.2.1.rng hx
  exact r_belowOf hG.1 (by omega)
/-- bounds of the arrays of types -/
theorem TG.bd (hG : TG s p) (hx : Id s p x) : (0 ≤ x ∧ x < s (1000 + 268) 0 0) ∧ (0 ≤ x ∧ x < s (1000 + 269) 0 0) ∧ (0 ≤ x ∧ x < s (1000 + 270) 0 0) ∧ (0 ≤ x ∧ x < s (1000 + 271) 0 0) := by
  obtain ⟨h1, h2, h3, h4, h5, h6, h7⟩ := hG.1.2.1
  have hc := hG.2.1.cap
  have h0 := hx.1; have h8 := hx.2
  rw [h1, h2, h3, h4]
  omega
theorem TX.id (hX : TX p c d s t) (hx : Id s p x) : t 268 0 x = s 268 0 x ∧ t 269 0 x = s 269 0 x ∧ t 270 0 x = s 270 0 x ∧ t 271 0 x = s 271 0 x ∧ (∀ k, 0 ≤ k → k < s 271 0 x → t 274 0 (s 270 0 x + k) = s 274 0 (s 270 0 x + k)) ∧ Ty t p x = Ty s p x := by
  obtain ⟨z1, z2, z3, z4, z5, z6⟩ := hX.2.2.2.2.2.2 x hx
  exact ⟨z1, z2, z3, z4, z6, hX.2.2.2.2.1 x hx⟩
theorem sr_w (hG : TG s p) (hx : Id s p x) (hk : 0 ≤ j ∧ j < s 271 0 x) : w3 (s 270 0 x + j) = s 270 0 x + j := by
  have hr := hG.2.1.rng hx
  exact w3_i (by omega)
theorem pps_at (hT : TI s p) {pre suf : List (Nat × Tr)} {q : Nat × Tr} (e : pps s p x = pre ++ q :: suf) : (pre.length : Int) < s 271 0 x ∧ q.1 = (s 274 0 (s 270 0 x + pre.length) % 2).toNat ∧ q.2 = Ty s p (s 274 0 (s 270 0 x + pre.length) / 2) := by
  have hl : pre.length < (pps s p x).length := by rw [e]; simp
  have h1 := pps_get (s := s) (p := p) (x := x) hl
  have h2 : (pps s p x)[pre.length] = q := by simp [e]
  rw [h2] at h1
  refine ⟨by rw [pps_len] at hl; omega, by rw [h1], by rw [h1]⟩
end Rj0
