/-! ===== types as trees: as they are shown; Unions ===== -/
set_option maxRecDepth 100000
/-- the bytes of eight that are not 0 -/
def by8 (z : Nat) : List Nat := (([56, 48, 40, 32, 24, 16, 8, 0] : List Nat).map fun k => z / 2 ^ k % 256).filter fun b => b != 0
/-- a name's bytes -/
def lts (rest key : Nat) : List Nat := by8 rest ++ by8 key
def ltc (c : Nat) : List Nat := lts (c / 2 ^ 64) (c % 2 ^ 64)
def pre_ (b : Nat) : List Nat := if b = 1 then [60, 58] else []
/-- parts with commas between -/
def cms : List (Nat × List Nat) → List Nat
  | [] => []
  | x :: l => pre_ x.1 ++ x.2 ++ (l.map fun x => 44 :: (pre_ x.1 ++ x.2)).flatten
/-- a type's bytes; nb tells a name's -/
def tshow (nb : Nat → List Nat) : Tr → List Nat := tfold (fun o r ps => if o = 3 then 35 :: ltc r else if o = 0 ∧ ps.length = 0 then nb r else
  (if o = 0 then nb r else if o = 1 then [85, 110, 105, 111, 110] else []) ++ (if o = 2 then 40 else 123) :: (cms ps ++ [if o = 2 then 41 else 125])) []
theorem tshow_ty {nb : Nat → List Nat} {o r : Nat} {ps : List (Nat × Tr)} : tshow nb (ty o r ps) = if o = 3 then 35 :: ltc r else if o = 0 ∧ ps.length = 0 then nb r else
  (if o = 0 then nb r else if o = 1 then [85, 110, 105, 111, 110] else []) ++ (if o = 2 then 40 else 123) :: (cms (ps.map fun q => (q.1, tshow nb q.2)) ++ [if o = 2 then 41 else 125]) := by
  unfold tshow; rw [tfold_ty, List.length_map]
/-- whether bytes come ahead of others -/
def bah : List Nat → List Nat → Bool
  | _, [] => false
  | [], _ :: _ => true
  | a :: l, b :: k => if a = b then bah l k else decide (a < b)
def tahead (nb : Nat → List Nat) (lim : Nat) (a b : Tr) : Bool := bah ((tshow nb a).take lim) ((tshow nb b).take lim)
/-- put in where it belongs, from the right -/
def insr (f : Tr → Tr → Bool) (t : Tr) (l : List Tr) : List Tr := (l.reverse.dropWhile fun x => f t x).reverse ++ t :: (l.reverse.takeWhile fun x => f t x).reverse
def isort (f : Tr → Tr → Bool) (l : List Tr) : List Tr := l.foldl (fun acc t => insr f t acc) []
def flat1 (t : Tr) : List Tr := if fo t = 1 then (pa t).map fun q => q.2 else [t]
def flatu (l : List Tr) : List Tr := (l.map flat1).flatten
/-- whether a member is below another one from m on -/
def gofr (ab : Nat → Tr) (l : List Tr) (k : Nat) : Nat → Nat → Bool
  | _, 0 => false
  | m, e + 1 => (m != k && tsub ab (l.getD k (lf 0)) (l.getD m (lf 0)) && (decide (m < k) || !tsub ab (l.getD m (lf 0)) (l.getD k (lf 0)))) || gofr ab l k (m + 1) e
/-- whether a member goes: another one is above it -/
def goes (ab : Nat → Tr) (l : List Tr) (k : Nat) : Bool := gofr ab l k 0 l.length
def stfr (ab : Nat → Tr) (l : List Tr) : Nat → Nat → List Tr
  | _, 0 => []
  | k, e + 1 => (if goes ab l k = true then [] else [l.getD k (lf 0)]) ++ stfr ab l (k + 1) e
def stays (ab : Nat → Tr) (l : List Tr) : List Tr := stfr ab l 0 l.length
def tun1 (l : List Tr) : Tr := if l.length = 1 then l.getD 0 (lf 0) else ty 1 0 (l.map fun t => (0, t))
/-- the normal form of a Union -/
def tun (ab : Nat → Tr) (nb : Nat → List Nat) (lim : Nat) (l : List Tr) : Tr := tun1 (isort (tahead nb lim) (stays ab (flatu l)))
theorem dropW {α : Type} {f : α → Bool} : ∀ {l k : List α}, (∀ x ∈ l, f x = true) → (l ++ k).dropWhile f = k.dropWhile f ∧ (l ++ k).takeWhile f = l ++ k.takeWhile f
  | [], k, _ => ⟨rfl, rfl⟩
  | x :: l, k, h => by
    have h1 := h x List.mem_cons_self
    have h2 := dropW (k := k) fun y hy => h y (List.mem_cons_of_mem _ hy)
    rw [List.cons_append, List.dropWhile_cons_of_pos h1, List.takeWhile_cons_of_pos h1, h2.1, h2.2]
    exact ⟨rfl, rfl⟩
theorem insr_stop {f : Tr → Tr → Bool} {t : Tr} {P Q : List Tr} (hQ : ∀ q ∈ Q, f t q = true) (hP : P = [] ∨ ∃ P' y, P = P' ++ [y] ∧ f t y = false) : insr f t (P ++ Q) = P ++ t :: Q := by
  unfold insr
  rw [List.reverse_append]
  obtain ⟨h1, h2⟩ := dropW (f := fun x => f t x) (l := Q.reverse) (k := P.reverse) fun x hx => hQ x (List.mem_reverse.mp hx)
  rw [h1, h2]
  rcases hP with rfl | ⟨P', y, rfl, hy⟩
  · simp
  · rw [List.reverse_append, List.reverse_singleton, List.singleton_append, List.dropWhile_cons_of_neg (by simp [hy]), List.takeWhile_cons_of_neg (by simp [hy])]
    simp
