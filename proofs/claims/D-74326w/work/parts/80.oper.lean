set_option maxRecDepth 100000
set_option maxHeartbeats 4000000
/-! ways that are alike, plain: sums over x as operators; what rises, by Newton's sums -/
/-- of each of m values from x = lo on, k times -/
def oP (v : Int → Int) (lo : Int) (m : Nat) (k : Int) (u : Int → Int) (s : Int) : Int := uN (fun j => u (s - k * v (lo + j))) m
theorem oP_congr {v : Int → Int} {lo : Int} {m : Nat} {k : Int} {u u' : Int → Int} (h : ∀ s, u s = u' s) (s : Int) : oP v lo m k u s = oP v lo m k u' s := uN_congr m (fun j _ => h _)
theorem oP_add (v : Int → Int) (lo : Int) (m : Nat) (k : Int) (u u' : Int → Int) (s : Int) : oP v lo m k (fun z => u z + u' z) s = oP v lo m k u s + oP v lo m k u' s := uN_add _ _ m
theorem oP_mul (v : Int → Int) (lo : Int) (m : Nat) (k : Int) (c : Int) (u : Int → Int) (s : Int) : oP v lo m k (fun z => c * u z) s = c * oP v lo m k u s := uN_mul c _ m
theorem oP_zero (v : Int → Int) (lo : Int) (m : Nat) (k : Int) (s : Int) : oP v lo m k (fun _ => 0) s = 0 := uN_zero m (fun _ _ => rfl)
theorem oP_nn {v : Int → Int} {lo : Int} {m : Nat} {k : Int} {u : Int → Int} (h : ∀ s, 0 ≤ u s) (s : Int) : 0 ≤ oP v lo m k u s := uN_nn m (fun _ _ => h _)
theorem oP_comm (v v' : Int → Int) (lo lo' : Int) (m m' : Nat) (k k' : Int) (u : Int → Int) (s : Int) : oP v lo m k (oP v' lo' m' k' u) s = oP v' lo' m' k' (oP v lo m k u) s := by
  unfold oP
  rw [uN_swap (fun i j => u (s - k * v (lo + i) - k' * v' (lo' + j))) m' m]
  exact uN_congr _ (fun j _ => uN_congr _ (fun i _ => by congr 1; omega))
theorem oP_sh (v : Int → Int) (lo : Int) (m : Nat) (k e : Int) (u : Int → Int) (s : Int) : oP v lo m k (fun z => u (z - e)) s = oP v lo m k u (s - e) := by
  unfold oP
  exact uN_congr _ (fun j _ => by show u _ = u _; congr 1; omega)
theorem oP_succ (v : Int → Int) (lo : Int) (m : Nat) (k : Int) (u : Int → Int) (s : Int) : oP v lo (m + 1) k u s = oP v lo m k u s + u (s - k * v (lo + m)) := rfl
theorem uN_le2 {f g : Nat → Int} : ∀ n : Nat, (∀ j, j < n → f j ≤ g j) → uN f n ≤ uN g n
  | 0, _ => Int.le_refl 0
  | n + 1, h => by
    show uN f n + f n ≤ uN g n + g n
    have := uN_le2 n (fun j hj => h j (by omega)); have := h n (by omega); omega
/-- one value more: any number of it, what rises -/
def hS (pr : Nat → Int → Int) (w : Int → Int) (e : Int) : Nat → Int → Int
  | 0 => w
  | c + 1 => fun s => pr (c + 1) s + hS pr w e c (s - e)
/-- c of m values that rise (from x = lo on) -/
def hM (v : Int → Int) (lo : Int) (w : Int → Int) : Nat → Nat → Int → Int
  | 0 => fun c => if c = 0 then w else fun _ => 0
  | m + 1 => hS (hM v lo w m) w (v (lo + m))
theorem hM_0 (v : Int → Int) (lo : Int) (w : Int → Int) : ∀ m, hM v lo w m 0 = w
  | 0 => rfl
  | _ + 1 => rfl
theorem hM_s (v : Int → Int) (lo : Int) (w : Int → Int) (m c : Nat) (s : Int) : hM v lo w (m + 1) (c + 1) s = hM v lo w m (c + 1) s + hM v lo w (m + 1) c (s - v (lo + m)) := rfl
theorem hM_nn {v : Int → Int} {lo : Int} {w : Int → Int} (hw : ∀ s, 0 ≤ w s) : ∀ (m c : Nat) (s : Int), 0 ≤ hM v lo w m c s
  | 0, c, s => by
    show 0 ≤ (if c = 0 then w else fun _ => 0) s
    split
    · exact hw s
    · exact Int.le_refl 0
  | m + 1, 0, s => by rw [hM_0]; exact hw s
  | m + 1, c + 1, s => by
    rw [hM_s]
    have := hM_nn (v := v) (lo := lo) hw m (c + 1) s
    have := hM_nn (v := v) (lo := lo) hw (m + 1) c (s - v (lo + m))
    omega
termination_by m c => (m, c)
theorem hM_mono {v : Int → Int} {lo : Int} {w : Int → Int} (hw : ∀ s, 0 ≤ w s) (c : Nat) (s : Int) (m : Nat) : ∀ d : Nat, hM v lo w m c s ≤ hM v lo w (m + d) c s
  | 0 => Int.le_refl _
  | d + 1 => by
    have h := hM_mono (v := v) (lo := lo) hw c s m d
    cases c with
    | zero => rw [hM_0, hM_0]; exact Int.le_refl _
    | succ c =>
      show _ ≤ hM v lo w (m + d + 1) (c + 1) s
      rw [hM_s]
      have := hM_nn (v := v) (lo := lo) hw (m + d + 1) c (s - v (lo + ↑(m + d)))
      omega
/-- what rises is not more than any -/
theorem hM_sum (v : Int → Int) (lo : Int) (w : Int → Int) (c : Nat) (s : Int) : ∀ m : Nat, hM v lo w m (c + 1) s = uN (fun j => hM v lo w (j + 1) c (s - v (lo + j))) m
  | 0 => rfl
  | m + 1 => by
    rw [hM_s, hM_sum v lo w c s m]
    rfl
theorem hM_le {v : Int → Int} {lo : Int} {w : Int → Int} (hw : ∀ s, 0 ≤ w s) (m c : Nat) (s : Int) : hM v lo w m (c + 1) s ≤ oP v lo m 1 (hM v lo w m c) s := by
  rw [hM_sum]
  unfold oP
  refine uN_le2 m (fun j hj => ?_)
  have := hM_mono (v := v) (lo := lo) hw c (s - v (lo + j)) (j + 1) (m - (j + 1))
  rw [show j + 1 + (m - (j + 1)) = m by omega] at this
  rw [Int.one_mul]
  exact this
theorem uN_sub (f g : Nat → Int) : ∀ n : Nat, uN (fun j => f j - g j) n = uN f n - uN g n
  | 0 => rfl
  | n + 1 => by show uN (fun j => f j - g j) n + (f n - g n) = (uN f n + f n) - (uN g n + g n); rw [uN_sub f g n]; omega
/-- the right side of Newton's sum -/
def nwR (v : Int → Int) (lo : Int) (w : Int → Int) (m c : Nat) (s : Int) : Int := uN (fun k => oP v lo m ((k : Int) + 1) (hM v lo w m (c - 1 - k)) s) c
theorem newton (v : Int → Int) (lo : Int) (w : Int → Int) : ∀ (m c : Nat) (s : Int), (c : Int) * hM v lo w m c s = nwR v lo w m c s
  | 0, c, s => by
    have h : nwR v lo w 0 c s = 0 := uN_zero c (fun _ _ => rfl)
    rw [h]
    cases c with
    | zero => simp
    | succ c =>
      show ((c + 1 : Nat) : Int) * 0 = 0
      simp
  | m + 1, 0, s => by simp [nwR, uN]
  | m + 1, c + 1, s => by
    have ih1 := newton v lo w m (c + 1) s
    have ih2 := newton v lo w (m + 1) c (s - v (lo + m))
    have e0 : ((c + 1 : Nat) : Int) * hM v lo w (m + 1) (c + 1) s = ((c + 1 : Nat) : Int) * hM v lo w m (c + 1) s + ((c : Nat) : Int) * hM v lo w (m + 1) c (s - v (lo + m)) + hM v lo w (m + 1) c (s - v (lo + m)) := by
      rw [hM_s, Int.mul_add, Int.natCast_add, Int.add_mul, Int.add_mul]
      simp only [Int.natCast_one, Int.one_mul]
      omega
    rw [e0, ih1, ih2]
    unfold nwR
    -- the m-values' part
    have a1 : ∀ k, k < c → oP v lo m ((k : Int) + 1) (hM v lo w m (c + 1 - 1 - k)) s = oP v lo m ((k : Int) + 1) (hM v lo w (m + 1) (c + 1 - 1 - k)) s - oP v lo m ((k : Int) + 1) (hM v lo w (m + 1) (c - 1 - k)) (s - v (lo + m)) := fun k hk => by
      rw [← oP_sh]
      have : ∀ z, hM v lo w m (c + 1 - 1 - k) z = hM v lo w (m + 1) (c + 1 - 1 - k) z + (-1) * hM v lo w (m + 1) (c - 1 - k) (z - v (lo + m)) := fun z => by
        rw [show c + 1 - 1 - k = (c - 1 - k) + 1 by omega, hM_s]; omega
      rw [oP_congr this, oP_add, oP_mul]
      omega
    have a2 : uN (fun k => oP v lo m ((k : Int) + 1) (hM v lo w m (c + 1 - 1 - k)) s) (c + 1) = uN (fun k => oP v lo m ((k : Int) + 1) (hM v lo w (m + 1) (c + 1 - 1 - k)) s) (c + 1) - uN (fun k => oP v lo m ((k : Int) + 1) (hM v lo w (m + 1) (c - 1 - k)) (s - v (lo + m))) c := by
      show uN (fun k => oP v lo m ((k : Int) + 1) (hM v lo w m (c + 1 - 1 - k)) s) c + oP v lo m ((c : Int) + 1) (hM v lo w m (c + 1 - 1 - c)) s = (uN (fun k => oP v lo m ((k : Int) + 1) (hM v lo w (m + 1) (c + 1 - 1 - k)) s) c + oP v lo m ((c : Int) + 1) (hM v lo w (m + 1) (c + 1 - 1 - c)) s) - _
      rw [uN_congr c a1, uN_sub, show c + 1 - 1 - c = 0 by omega, hM_0, hM_0]
      omega
    have a3 : uN (fun k => oP v lo (m + 1) ((k : Int) + 1) (hM v lo w (m + 1) (c - 1 - k)) (s - v (lo + m))) c = uN (fun k => oP v lo m ((k : Int) + 1) (hM v lo w (m + 1) (c - 1 - k)) (s - v (lo + m))) c + uN (fun k => hM v lo w (m + 1) (c - 1 - k) (s - v (lo + m) - ((k : Int) + 1) * v (lo + m))) c := by
      rw [← uN_add]; exact uN_congr c (fun k _ => oP_succ ..)
    have a4 : uN (fun k => oP v lo (m + 1) ((k : Int) + 1) (hM v lo w (m + 1) (c + 1 - 1 - k)) s) (c + 1) = uN (fun k => oP v lo m ((k : Int) + 1) (hM v lo w (m + 1) (c + 1 - 1 - k)) s) (c + 1) + uN (fun k => hM v lo w (m + 1) (c + 1 - 1 - k) (s - ((k : Int) + 1) * v (lo + m))) (c + 1) := by
      rw [← uN_add]; exact uN_congr (c + 1) (fun k _ => oP_succ ..)
    have a5 : uN (fun k => hM v lo w (m + 1) (c + 1 - 1 - k) (s - ((k : Int) + 1) * v (lo + m))) (c + 1) = hM v lo w (m + 1) c (s - v (lo + m)) + uN (fun k => hM v lo w (m + 1) (c - 1 - k) (s - v (lo + m) - ((k : Int) + 1) * v (lo + m))) c := by
      have e := uN_shift (fun k : Nat => hM v lo w (m + 1) (c + 1 - 1 - k) (s - ((k : Int) + 1) * v (lo + m))) c
      have e1 : uN (fun k : Nat => (fun k : Nat => hM v lo w (m + 1) (c + 1 - 1 - k) (s - ((k : Int) + 1) * v (lo + m))) (k + 1)) c = uN (fun k => hM v lo w (m + 1) (c - 1 - k) (s - v (lo + m) - ((k : Int) + 1) * v (lo + m))) c := uN_congr c (fun k hk => by
        show hM v lo w (m + 1) (c + 1 - 1 - (k + 1)) (s - (((k + 1 : Nat) : Int) + 1) * v (lo + m)) = _
        rw [show c + 1 - 1 - (k + 1) = c - 1 - k by omega]
        congr 1
        rw [Int.natCast_add, Int.add_mul, Int.add_mul, Int.add_mul]
        simp only [Int.natCast_one, Int.one_mul]
        omega)
      rw [e1] at e
      have e2 : hM v lo w (m + 1) (c + 1 - 1 - 0) (s - (((0 : Nat) : Int) + 1) * v (lo + m)) = hM v lo w (m + 1) c (s - v (lo + m)) := by
        rw [show c + 1 - 1 - 0 = c by omega]; simp
      rw [e2] at e
      have e3 : uN (fun k : Nat => hM v lo w (m + 1) (c - 1 - k) (s - v (lo + m) - ((k : Int) + 1) * v (lo + m))) c = uN (fun k : Nat => hM v lo w (m + 1) (c + 1 - 1 - k) (s - ((k : Int) + 1) * v (lo + m))) c + hM v lo w (m + 1) (c + 1 - 1 - c) (s - ((c : Int) + 1) * v (lo + m)) - hM v lo w (m + 1) c (s - v (lo + m)) := e
      show uN (fun k : Nat => hM v lo w (m + 1) (c + 1 - 1 - k) (s - ((k : Int) + 1) * v (lo + m))) c + hM v lo w (m + 1) (c + 1 - 1 - c) (s - ((c : Int) + 1) * v (lo + m)) = _
      omega
    rw [a2, a3, a4, a5]
    omega
termination_by m c => (m, c)
