/-! ===== plain steps: what a plain function comes to ===== -/
set_option maxRecDepth 100000
/-- it comes to an answer with Q, or throws with X -/
def Wp (r : Ro) (Q : Int → Sg → Prop) (X : Int → Sg → Prop) : Prop := match r with
  | some (false, v, s) => Q v s
  | some (true, v, s) => X v s
  | none => False
def nX : Int → Sg → Prop := fun _ _ => False
section Pb
variable {s : Sg} {v x j c : Int} {k : Nat} {B : Ro} {q : Int × Sg} {K : Int → Sg → Ro} {Q Q' X X' : Int → Sg → Prop} {r : Ro}
theorem rb_ra : rb (ra v s) K = K v s := rfl
theorem rb_ok : rb (some (false, v, s)) K = K v s := rfl
theorem cls_of (h : s 0 x 0 = c) : cls s x c B = B := if_pos h
theorem inb_of (h : 0 ≤ j ∧ j < s (1000 + k) x 0) : inb s k x j B = B := if_pos h
theorem ck_of {p : Prop} [Decidable p] (h : p) : ck p B = B := if_pos h
theorem pt_b {D : Sg → Ro} : pt s k x j v D = D (up s k x j v) := rfl
theorem wp_ra (h : Q v s) : Wp (ra v s) Q X := h
theorem wp_mono (h : Wp r Q X) (hq : ∀ v s, Q v s → Q' v s) (hx : ∀ v s, X v s → X' v s) : Wp r Q' X' := by
  match r, h with
  | some (false, v, s), h => exact hq v s h
  | some (true, v, s), h => exact hx v s h
theorem wp_rb (h : Wp r (fun v s => Wp (K v s) Q X) X) : Wp (rb r K) Q X := by
  match r, h with
  | some (false, v, s), h => exact h
  | some (true, v, s), h => exact h
theorem wp_call (h : Wp r Q' X) (hk : ∀ v s, Q' v s → Wp (K v s) Q X) : Wp (rb r K) Q X := wp_rb (wp_mono h hk fun _ _ h => h)
theorem wp_cal (h : Wp r Q' nX) (hk : ∀ v s, Q' v s → Wp (K v s) Q X) : Wp (rb r K) Q X := wp_rb (wp_mono h hk fun _ _ h => h.elim)
theorem wp_q (h : Wp r Q' nX) (hk : ∀ v s, Q' v s → Q v s) : Wp r Q X := wp_mono h hk fun _ _ h => h.elim
theorem wp_ex (h : Wp r Q nX) : ∃ v s, r = some (false, v, s) ∧ Q v s := by
  match r, h with
  | some (false, v, s), h => exact ⟨v, s, rfl, h⟩
  | some (true, v, s), h => exact h.elim
theorem wp_eq (e : r = ra v s) (h : Wp (K v s) Q X) : Wp (rb r K) Q X := by rw [e]; exact h
theorem wp_ite {p : Prop} [Decidable p] {a b : Ro} (h1 : p → Wp a Q X) (h2 : ¬ p → Wp b Q X) : Wp (if p then a else b) Q X := by
  split
  · next h => exact h1 h
  · next h => exact h2 h
theorem wp_inb (h : 0 ≤ j ∧ j < s (1000 + k) x 0) (hb : Wp B Q X) : Wp (inb s k x j B) Q X := by rw [inb_of h]; exact hb
theorem wp_cls (h : s 0 x 0 = c) (hb : Wp B Q X) : Wp (cls s x c B) Q X := by rw [cls_of h]; exact hb
theorem wp_ck {p : Prop} [Decidable p] (h : p) (hb : Wp B Q X) : Wp (ck p B) Q X := by rw [ck_of h]; exact hb
theorem up_ap {k' : Nat} {x' j' : Int} : up s k x j v k' x' j' = if k' = k ∧ x' = x ∧ j' = j then v else s k' x' j' := rfl
theorem up_me : up s k x j v k x j = v := if_pos ⟨rfl, rfl, rfl⟩
theorem up_k {k' : Nat} (h : k' ≠ k) : up s k x j v k' = s k' := by funext x' j'; exact if_neg fun q => h q.1
theorem up_x {k' : Nat} {x' : Int} (h : x' ≠ x) : up s k x j v k' x' = s k' x' := by funext j'; exact if_neg fun q => h q.2.1
theorem up_j {k' : Nat} {x' j' : Int} (h : j' ≠ j) : up s k x j v k' x' j' = s k' x' j' := if_neg fun q => h q.2.2
theorem up_s {j' : Int} : up s k x j v k x j' = if j' = j then v else s k x j' := by unfold up; by_cases h : j' = j <;> simp [h]
end Pb
theorem w3_i {z : Int} (h : -2147483648 ≤ z ∧ z < 2147483648) : w3 z = z := Int32.toInt_ofInt_of_le h.1 h.2
/-- only what stands under these keys is another -/
def Fk (K : Nat) (s t : Sg) : Prop := ∀ k, K.testBit k = false → t k = s k
section Fk1
variable {s t u : Sg} {K k : Nat} {x j v : Int}
theorem Fk.rf : Fk K s s := fun _ _ => rfl
theorem Fk.tr (h : Fk K s t) (h2 : Fk K t u) : Fk K s u := fun k hk => (h2 k hk).trans (h k hk)
theorem Fk.up (h : Fk K s t) (hk : K.testBit k = true) : Fk K s (up t k x j v) := fun q hq => by
  rw [up_k (fun e => by rw [e, hk] at hq; cases hq)]; exact h q hq
theorem Fk.g (h : Fk K s t) (k : Nat) (hk : K.testBit k = false) : t k = s k := h k hk
end Fk1
def km : List Nat → Nat
  | [] => 0
  | k :: ks => (1 <<< k) ||| km ks
/-! bits -/
theorem I3_nat {z : Int} : ((I3 z).toBitVec.toNat : Int) = z % 4294967296 := by
  unfold I3 Int32.ofInt
  simp only [Int32.toBitVec, BitVec.toNat_ofInt]
  omega
theorem tI_nat {b : BitVec 32} (h : b.toNat < 2147483648) : (Int32.ofBitVec b).toInt = (b.toNat : Int) := by
  show b.toInt = _
  rw [BitVec.toInt_eq_toNat_cond]
  split <;> omega
theorem an3_m (k : Nat) (hk : k < 31) (x : Int) : an3 x ((2 ^ k - 1 : Nat) : Int) = x % ((2 ^ k : Nat) : Int) := by
  have h2 : 2 ^ k < 2147483648 := Nat.pow_lt_pow_right (by decide) hk
  have h1 : 0 < 2 ^ k := Nat.two_pow_pos k
  have e : ((I3 x &&& I3 ((2 ^ k - 1 : Nat) : Int)).toBitVec.toNat : Int) = x % ((2 ^ k : Nat) : Int) := by
    rw [Int32.toBitVec_and, BitVec.toNat_and]
    have e2 : (I3 ((2 ^ k - 1 : Nat) : Int)).toBitVec.toNat = 2 ^ k - 1 := by
      have := I3_nat (z := ((2 ^ k - 1 : Nat) : Int))
      omega
    rw [e2, Nat.and_two_pow_sub_one_eq_mod, Int.natCast_emod, I3_nat]
    have : ((2 ^ k : Nat) : Int) ∣ 4294967296 := by
      have : (2 ^ k : Nat) ∣ 2 ^ 32 := Nat.pow_dvd_pow 2 (by omega)
      exact Int.natCast_dvd_natCast.mpr this
    exact Int.emod_emod_of_dvd x this
  have hlt : (I3 x &&& I3 ((2 ^ k - 1 : Nat) : Int)).toBitVec.toNat < 2147483648 := by
    have := Int.emod_lt_of_pos x (b := ((2 ^ k : Nat) : Int)) (by omega)
    omega
  unfold an3
  show (Int32.ofBitVec (I3 x &&& I3 ((2 ^ k - 1 : Nat) : Int)).toBitVec).toInt = _
  rw [tI_nat hlt, e]
theorem an3_1 (x : Int) : an3 x 1 = x % 2 := an3_m 1 (by decide) x
theorem an3_14 (x : Int) : an3 x 16383 = x % 16384 := an3_m 14 (by decide) x
theorem an3_12 (x : Int) : an3 x 4095 = x % 4096 := an3_m 12 (by decide) x
theorem an3_255 (x : Int) : an3 x 255 = x % 256 := an3_m 8 (by decide) x
theorem sr3_k (k : Nat) (hk : k < 31) {x : Int} (h : 0 ≤ x ∧ x < 2147483648) : sr3 x k = x / ((2 ^ k : Nat) : Int) := by
  have hx := I3_nat (z := x)
  have e1 : (I3 (k : Int) &&& 31) = Int32.ofNat k := by
    have : ∀ k : Fin 31, (I3 (k.val : Int) &&& 31) = Int32.ofNat k.val := by decide +kernel
    exact this ⟨k, hk⟩
  unfold sr3
  rw [e1]
  have e2 : (I3 x >>> Int32.ofNat k).toInt = (I3 x).toInt / ((2 ^ k : Nat) : Int) := by
    have hk2 : ∀ k : Fin 31, ((Int32.ofNat k.val).toBitVec.smod 32#32).toNat = k.val := by decide +kernel
    show ((I3 x).toBitVec.sshiftRight' ((Int32.ofNat k).toBitVec.smod 32#32)).toInt = _
    rw [BitVec.toInt_sshiftRight', hk2 ⟨k, hk⟩, Int.shiftRight_eq_div_pow]
    rfl
  rw [e2]
  have : (I3 x).toInt = x := Int32.toInt_ofInt_of_le (by omega) (by omega)
  rw [this]
theorem sr3_1 {x : Int} (h : 0 ≤ x ∧ x < 2147483648) : sr3 x 1 = x / 2 := sr3_k 1 (by decide) h
theorem w1_i {z : Int} (h : -128 ≤ z ∧ z < 128) : w1 z = z := by
  have : ∀ y : Fin 256, w1 ((y.val : Int) - 128) = (y.val : Int) - 128 := by decide +kernel
  have := this ⟨(z + 128).toNat, by omega⟩
  rwa [show (((z + 128).toNat : Nat) : Int) - 128 = z by omega] at this
theorem or3_b {x y : Int} (hx : x = 0 ∨ x = 1) (hy : y = 0 ∨ y = 1) : or3 x y = if x = 1 ∨ y = 1 then 1 else 0 := by
  rcases hx with rfl | rfl <;> rcases hy with rfl | rfl <;> decide +kernel
theorem w3_mod (z : Int) : w3 z = (z + 2147483648) % 4294967296 - 2147483648 := by
  unfold w3
  rw [Int32.toInt_ofInt, Int.bmod_def, show (Int32.size : Int) = 4294967296 from rfl]
  omega
theorem w3_c (z : Int) : -2147483648 ≤ w3 z ∧ w3 z < 2147483648 := by rw [w3_mod]; omega
theorem w3_w3 {a b : Int} : w3 (w3 a + b) = w3 (a + b) := by rw [w3_mod, w3_mod, w3_mod]; omega
