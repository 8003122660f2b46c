set_option maxRecDepth 100000
set_option maxHeartbeats 4000000
/-! polynomials in the operators: what is the same whatever the order -/
abbrev mon : Type := List (Nat × Nat)
abbrev ply : Type := List (Int × mon)
abbrev opE : Type := Nat → Nat → (Int → Int) → Int → Int
def eM (P : opE) : mon → (Int → Int) → Int → Int
  | [], w => w
  | x :: m, w => P x.1 x.2 (eM P m w)
def eP (P : opE) : ply → (Int → Int) → Int → Int
  | [], _, _ => 0
  | x :: p, w, s => x.1 * eM P x.2 w s + eP P p w s
/-- the operators are sums of moves -/
def opOk (P : opE) : Prop := (∀ c k u u' s, P c k (fun z => u z + u' z) s = P c k u s + P c k u' s) ∧ (∀ c k a u s, P c k (fun z => a * u z) s = a * P c k u s) ∧ (∀ c k c' k' u s, P c k (P c' k' u) s = P c' k' (P c k u) s)
theorem opOk.zero {P : opE} (h : opOk P) (c k : Nat) (s : Int) : P c k (fun _ => 0) s = 0 := by
  have := h.2.1 c k 0 (fun _ => 0) s
  simp only [Int.zero_mul] at this
  exact this
theorem eM_add {P : opE} (h : opOk P) (u u' : Int → Int) : ∀ (m : mon) (s : Int), eM P m (fun z => u z + u' z) s = eM P m u s + eM P m u' s
  | [], s => rfl
  | x :: m, s => by
    show P x.1 x.2 (eM P m (fun z => u z + u' z)) s = P x.1 x.2 (eM P m u) s + P x.1 x.2 (eM P m u') s
    rw [← h.1, show eM P m (fun z => u z + u' z) = fun z => eM P m u z + eM P m u' z from funext (eM_add h u u' m)]
theorem eM_mul {P : opE} (h : opOk P) (a : Int) (u : Int → Int) : ∀ (m : mon) (s : Int), eM P m (fun z => a * u z) s = a * eM P m u s
  | [], s => rfl
  | x :: m, s => by
    show P x.1 x.2 (eM P m (fun z => a * u z)) s = a * P x.1 x.2 (eM P m u) s
    rw [← h.2.1, show eM P m (fun z => a * u z) = fun z => a * eM P m u z from funext (eM_mul h a u m)]
theorem eM_zero {P : opE} (h : opOk P) : ∀ (m : mon) (s : Int), eM P m (fun _ => 0) s = 0
  | [], s => rfl
  | x :: m, s => by
    show P x.1 x.2 (eM P m (fun _ => 0)) s = 0
    rw [show eM P m (fun _ => 0) = fun _ => 0 from funext (eM_zero h m)]
    exact h.zero ..
theorem eM_app (P : opE) (w : Int → Int) : ∀ (m m' : mon), eM P (m ++ m') w = eM P m (eM P m' w)
  | [], _ => rfl
  | x :: m, m' => by
    show P x.1 x.2 (eM P (m ++ m') w) = P x.1 x.2 (eM P m (eM P m' w))
    rw [eM_app P w m m']
theorem eP_mul {P : opE} (h : opOk P) (a : Int) (u : Int → Int) : ∀ (p : ply) (s : Int), eP P p (fun z => a * u z) s = a * eP P p u s
  | [], s => by show (0 : Int) = a * 0; omega
  | x :: p, s => by
    show x.1 * eM P x.2 (fun z => a * u z) s + eP P p (fun z => a * u z) s = a * (x.1 * eM P x.2 u s + eP P p u s)
    rw [eM_mul h, eP_mul h a u p s, Int.mul_add, Int.mul_left_comm]
theorem eP_app (P : opE) (w : Int → Int) (s : Int) : ∀ (p q : ply), eP P (p ++ q) w s = eP P p w s + eP P q w s
  | [], q => by show eP P q w s = 0 + eP P q w s; omega
  | x :: p, q => by
    show x.1 * eM P x.2 w s + eP P (p ++ q) w s = x.1 * eM P x.2 w s + eP P p w s + eP P q w s
    rw [eP_app P w s p q]; omega
def pre (c k : Nat) (p : ply) : ply := p.map (fun x => (x.1, (c, k) :: x.2))
def scl (a : Int) (p : ply) : ply := p.map (fun x => (a * x.1, x.2))
theorem eP_pre {P : opE} (h : opOk P) (c k : Nat) (w : Int → Int) : ∀ (p : ply) (s : Int), eP P (pre c k p) w s = P c k (eP P p w) s
  | [], s => (h.zero c k s).symm
  | x :: p, s => by
    show x.1 * P c k (eM P x.2 w) s + eP P (pre c k p) w s = P c k (fun z => x.1 * eM P x.2 w z + eP P p w z) s
    rw [h.1 c k (fun z => x.1 * eM P x.2 w z) (eP P p w), h.2.1, eP_pre h c k w p s]
theorem eP_scl (P : opE) (a : Int) (w : Int → Int) (s : Int) : ∀ (p : ply), eP P (scl a p) w s = a * eP P p w s
  | [] => by show (0 : Int) = a * 0; omega
  | x :: p => by
    show a * x.1 * eM P x.2 w s + eP P (scl a p) w s = a * (x.1 * eM P x.2 w s + eP P p w s)
    rw [eP_scl P a w s p, Int.mul_add, Int.mul_assoc]
/-- a polynomial behind another -/
def pMul : ply → ply → ply
  | [], _ => []
  | x :: p, q => q.map (fun y => (x.1 * y.1, x.2 ++ y.2)) ++ pMul p q
theorem eP_one {P : opE} (h : opOk P) (a : Int) (m : mon) (w : Int → Int) : ∀ (q : ply) (s : Int), eP P (q.map (fun y => (a * y.1, m ++ y.2))) w s = a * eM P m (eP P q w) s
  | [], s => by
    show (0 : Int) = a * eM P m (fun _ => 0) s
    rw [eM_zero h]; omega
  | y :: q, s => by
    show a * y.1 * eM P (m ++ y.2) w s + eP P (q.map (fun y => (a * y.1, m ++ y.2))) w s = a * eM P m (fun z => y.1 * eM P y.2 w z + eP P q w z) s
    rw [eM_app, eP_one h a m w q s, eM_add h (fun z => y.1 * eM P y.2 w z) (eP P q w), eM_mul h, Int.mul_add, Int.mul_assoc]
theorem eP_pMul {P : opE} (h : opOk P) (w : Int → Int) (s : Int) (q : ply) : ∀ p : ply, eP P (pMul p q) w s = eP P p (eP P q w) s
  | [] => rfl
  | x :: p => by
    show eP P (q.map (fun y => (x.1 * y.1, x.2 ++ y.2)) ++ pMul p q) w s = x.1 * eM P x.2 (eP P q w) s + eP P p (eP P q w) s
    rw [eP_app, eP_one h, eP_pMul h w s q p]
/-- sorted: operators, then what stands alike together -/
def inM (x : Nat × Nat) : mon → mon
  | [] => [x]
  | y :: m => if 8 * x.1 + x.2 ≤ 8 * y.1 + y.2 then x :: y :: m else y :: inM x m
def soM : mon → mon
  | [] => []
  | x :: m => inM x (soM m)
def enM : mon → Nat
  | [] => 0
  | x :: m => 64 * enM m + (8 * x.1 + x.2) + 1
def inP (x : Int × mon) : ply → ply
  | [] => [x]
  | y :: p => if x.2 = y.2 then (x.1 + y.1, y.2) :: p else if enM x.2 < enM y.2 then x :: y :: p else y :: inP x p
def nfP : ply → ply
  | [] => []
  | x :: p => inP (x.1, soM x.2) (nfP p)
theorem eM_inM {P : opE} (h : opOk P) (w : Int → Int) (x : Nat × Nat) : ∀ m : mon, eM P (inM x m) w = P x.1 x.2 (eM P m w)
  | [] => rfl
  | y :: m => by
    unfold inM
    split
    · rfl
    · show P y.1 y.2 (eM P (inM x m) w) = P x.1 x.2 (P y.1 y.2 (eM P m w))
      rw [eM_inM h w x m]
      exact funext (fun s => h.2.2 ..)
theorem eM_soM {P : opE} (h : opOk P) (w : Int → Int) : ∀ m : mon, eM P (soM m) w = eM P m w
  | [] => rfl
  | x :: m => by
    show eM P (inM x (soM m)) w = P x.1 x.2 (eM P m w)
    rw [eM_inM h, eM_soM h w m]
theorem eP_inP (P : opE) (w : Int → Int) (s : Int) (x : Int × mon) : ∀ p : ply, eP P (inP x p) w s = x.1 * eM P x.2 w s + eP P p w s
  | [] => rfl
  | y :: p => by
    unfold inP
    split
    · rename_i e
      show (x.1 + y.1) * eM P y.2 w s + eP P p w s = x.1 * eM P x.2 w s + (y.1 * eM P y.2 w s + eP P p w s)
      rw [e, Int.add_mul]; omega
    split
    · rfl
    · show y.1 * eM P y.2 w s + eP P (inP x p) w s = x.1 * eM P x.2 w s + (y.1 * eM P y.2 w s + eP P p w s)
      rw [eP_inP P w s x p]; omega
theorem eP_nf {P : opE} (h : opOk P) (w : Int → Int) (s : Int) : ∀ p : ply, eP P (nfP p) w s = eP P p w s
  | [] => rfl
  | x :: p => by
    show eP P (inP (x.1, soM x.2) (nfP p)) w s = x.1 * eM P x.2 w s + eP P p w s
    rw [eP_inP, eP_nf h w s p]
    show x.1 * eM P (soM x.2) w s + _ = _
    rw [eM_soM h]
/-- so often c! as there are that rise, by turns -/
def zQ0 (_ : Nat) : ply := [(1, [])]
def zQ1 (c : Nat) : ply := pre c 1 (zQ0 c)
def zQ2 (c : Nat) : ply := pre c 1 (zQ1 c) ++ pre c 2 (zQ0 c)
def zQ3 (c : Nat) : ply := pre c 1 (zQ2 c) ++ (scl 2 (pre c 2 (zQ1 c)) ++ scl 2 (pre c 3 (zQ0 c)))
def zQ4 (c : Nat) : ply := pre c 1 (zQ3 c) ++ (scl 3 (pre c 2 (zQ2 c)) ++ (scl 6 (pre c 3 (zQ1 c)) ++ scl 6 (pre c 4 (zQ0 c))))
def zQ5 (c : Nat) : ply := pre c 1 (zQ4 c) ++ (scl 4 (pre c 2 (zQ3 c)) ++ (scl 12 (pre c 3 (zQ2 c)) ++ (scl 24 (pre c 4 (zQ1 c)) ++ scl 24 (pre c 5 (zQ0 c)))))
def zP (c n : Nat) : ply := match n with
  | 0 => zQ0 c
  | 1 => zQ1 c
  | 2 => zQ2 c
  | 3 => zQ3 c
  | 4 => zQ4 c
  | 5 => zQ5 c
  | _ => []
def fac : Nat → Nat
  | 0 => 1
  | n + 1 => (n + 1) * fac n
section
variable {P : opE} {c : Nat} {v : Int → Int} {lo : Int} {m : Nat}
theorem zP_0 (w : Int → Int) (s : Int) : eP P (zQ0 c) w s = hM v lo w m 0 s := by
  rw [hM_0]
  show 1 * w s + 0 = w s
  omega
theorem zP_1 (hP : ∀ k u s, P c k u s = oP v lo m k u s) (h : opOk P) (w : Int → Int) (s : Int) : eP P (zQ1 c) w s = hM v lo w m 1 s := by
  show eP P (pre c 1 (zQ0 c)) w s = _
  rw [eP_pre h, hP, oP_congr (zP_0 (v := v) (lo := lo) (m := m) w)]
  have n := newton v lo w m 1 s
  unfold nwR uN uN at n
  simp only [Int.natCast_one, Int.one_mul, Int.natCast_zero, Int.zero_add] at n
  exact n.symm
theorem zP_2 (hP : ∀ k u s, P c k u s = oP v lo m k u s) (h : opOk P) (w : Int → Int) (s : Int) : eP P (zQ2 c) w s = 2 * hM v lo w m 2 s := by
  show eP P (pre c 1 (zQ1 c) ++ pre c 2 (zQ0 c)) w s = _
  rw [eP_app, eP_pre h, eP_pre h, hP, hP, oP_congr (zP_1 hP h w), oP_congr (zP_0 (v := v) (lo := lo) (m := m) w)]
  have n := newton v lo w m 2 s
  unfold nwR uN uN uN at n
  simp only [Int.natCast_zero, Int.zero_add, Int.natCast_one] at n
  exact n.symm
theorem zP_3 (hP : ∀ k u s, P c k u s = oP v lo m k u s) (h : opOk P) (w : Int → Int) (s : Int) : eP P (zQ3 c) w s = 6 * hM v lo w m 3 s := by
  show eP P (pre c 1 (zQ2 c) ++ (scl 2 (pre c 2 (zQ1 c)) ++ scl 2 (pre c 3 (zQ0 c)))) w s = _
  simp only [eP_app, eP_scl, eP_pre h, hP]
  rw [oP_congr (zP_2 hP h w), oP_congr (zP_1 hP h w), oP_congr (zP_0 (v := v) (lo := lo) (m := m) w), oP_mul]
  have n := newton v lo w m 3 s
  unfold nwR uN uN uN uN at n
  simp only [Int.natCast_zero, Int.zero_add, Int.natCast_one] at n
  have n : 3 * hM v lo w m 3 s = oP v lo m 1 (hM v lo w m 2) s + oP v lo m 2 (hM v lo w m 1) s + oP v lo m 3 (hM v lo w m 0) s := n
  show 2 * oP v lo m 1 (hM v lo w m 2) s + (2 * oP v lo m 2 (hM v lo w m 1) s + 2 * oP v lo m 3 (hM v lo w m 0) s) = _
  omega
theorem zP_4 (hP : ∀ k u s, P c k u s = oP v lo m k u s) (h : opOk P) (w : Int → Int) (s : Int) : eP P (zQ4 c) w s = 24 * hM v lo w m 4 s := by
  show eP P (pre c 1 (zQ3 c) ++ (scl 3 (pre c 2 (zQ2 c)) ++ (scl 6 (pre c 3 (zQ1 c)) ++ scl 6 (pre c 4 (zQ0 c))))) w s = _
  simp only [eP_app, eP_scl, eP_pre h, hP]
  rw [oP_congr (zP_3 hP h w), oP_congr (zP_2 hP h w), oP_congr (zP_1 hP h w), oP_congr (zP_0 (v := v) (lo := lo) (m := m) w), oP_mul, oP_mul]
  have n := newton v lo w m 4 s
  unfold nwR uN uN uN uN uN at n
  simp only [Int.natCast_zero, Int.zero_add, Int.natCast_one] at n
  have n : 4 * hM v lo w m 4 s = oP v lo m 1 (hM v lo w m 3) s + oP v lo m 2 (hM v lo w m 2) s + oP v lo m 3 (hM v lo w m 1) s + oP v lo m 4 (hM v lo w m 0) s := n
  show 6 * oP v lo m 1 (hM v lo w m 3) s + (3 * (2 * oP v lo m 2 (hM v lo w m 2) s) + (6 * oP v lo m 3 (hM v lo w m 1) s + 6 * oP v lo m 4 (hM v lo w m 0) s)) = _
  omega
theorem zP_5 (hP : ∀ k u s, P c k u s = oP v lo m k u s) (h : opOk P) (w : Int → Int) (s : Int) : eP P (zQ5 c) w s = 120 * hM v lo w m 5 s := by
  show eP P (pre c 1 (zQ4 c) ++ (scl 4 (pre c 2 (zQ3 c)) ++ (scl 12 (pre c 3 (zQ2 c)) ++ (scl 24 (pre c 4 (zQ1 c)) ++ scl 24 (pre c 5 (zQ0 c)))))) w s = _
  simp only [eP_app, eP_scl, eP_pre h, hP]
  rw [oP_congr (zP_4 hP h w), oP_congr (zP_3 hP h w), oP_congr (zP_2 hP h w), oP_congr (zP_1 hP h w), oP_congr (zP_0 (v := v) (lo := lo) (m := m) w), oP_mul, oP_mul, oP_mul]
  have n := newton v lo w m 5 s
  unfold nwR uN uN uN uN uN uN at n
  simp only [Int.natCast_zero, Int.zero_add, Int.natCast_one] at n
  have n : 5 * hM v lo w m 5 s = oP v lo m 1 (hM v lo w m 4) s + oP v lo m 2 (hM v lo w m 3) s + oP v lo m 3 (hM v lo w m 2) s + oP v lo m 4 (hM v lo w m 1) s + oP v lo m 5 (hM v lo w m 0) s := n
  show 24 * oP v lo m 1 (hM v lo w m 4) s + (4 * (6 * oP v lo m 2 (hM v lo w m 3) s) + (12 * (2 * oP v lo m 3 (hM v lo w m 2) s) + (24 * oP v lo m 4 (hM v lo w m 1) s + 24 * oP v lo m 5 (hM v lo w m 0) s))) = _
  omega
theorem zP_all (hP : ∀ k u s, P c k u s = oP v lo m k u s) (h : opOk P) (w : Int → Int) (s : Int) {n : Nat} (hn : n ≤ 5) : eP P (zP c n) w s = (fac n : Int) * hM v lo w m n s := by
  rcases (show n = 0 ∨ n = 1 ∨ n = 2 ∨ n = 3 ∨ n = 4 ∨ n = 5 by omega) with e | e | e | e | e | e <;> subst e
  · show eP P (zQ0 c) w s = 1 * _
    rw [zP_0 (v := v) (lo := lo) (m := m)]; omega
  · show eP P (zQ1 c) w s = 1 * _
    rw [zP_1 hP h]; omega
  · exact zP_2 hP h w s
  · exact zP_3 hP h w s
  · exact zP_4 hP h w s
  · exact zP_5 hP h w s
end
theorem hM_mul (v : Int → Int) (lo : Int) (a : Int) (w : Int → Int) : ∀ (m c : Nat) (s : Int), hM v lo (fun z => a * w z) m c s = a * hM v lo w m c s
  | 0, c, s => by
    show (if c = 0 then (fun z => a * w z) else fun _ => 0) s = a * (if c = 0 then w else fun _ => 0) s
    split
    · rfl
    · show (0 : Int) = a * 0; omega
  | m + 1, 0, s => by rw [hM_0, hM_0]
  | m + 1, c + 1, s => by rw [hM_s, hM_s, hM_mul v lo a w m (c + 1) s, hM_mul v lo a w (m + 1) c, Int.mul_add]
termination_by m c => (m, c)
