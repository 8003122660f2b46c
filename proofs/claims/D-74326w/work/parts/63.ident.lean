set_option maxRecDepth 100000
set_option maxHeartbeats 4000000
/-! an identity is read: plain -/
/-- place, codes (sign, value), parts, letters -/
abbrev xst : Type := Nat × List (Int × Int) × Nat × Nat
abbrev xR : Type := (Int × Nat × Int) ⊕ xst
abbrev ltAt (T : Nat → Int) (n p : Nat) : Prop := srt T n p = 1 ∧ ende T n p = p + 1 ∧ wrdV T n p ≤ 6
def ptC (T : Nat → Int) (n j : Nat) : xR → xR
  | .inl x => .inl x
  | .inr s => if ¬ sgIs T n s.1 41 then .inl (1, s.1, (j + 1 : Nat)) else .inr (nxT T n s.1, s.2)
def ptR (T : Nat → Int) (n : Nat) (rc : Nat → xst → xR) (j : Nat) (s : xst) : xR :=
  if ¬ (isNb T n s.1 ∨ ltAt T n s.1 ∨ sgIs T n s.1 40) then .inl (1, s.1, j)
  else if sgIs T n s.1 40 ∧ j = 6 then .inl (11, s.1, j)
  else if s.2.2.1 = 60 then .inl (12, s.1, j)
  else if sgIs T n s.1 40 then ptC T n j (rc (j + 1) (nxT T n s.1, s.2.1, s.2.2.1 + 1, s.2.2.2))
  else if ltAt T n s.1 then .inr (nxT T n s.1, s.2.1 ++ [(1, wrdV T n s.1 - 1)], s.2.2.1 + 1, s.2.2.2 ||| 1 <<< (wrdV T n s.1 - 1).toNat)
  else .inr (nxT T n s.1, s.2.1 ++ [(0, numV T n s.1)], s.2.2.1 + 1, s.2.2.2)
def pwC (T : Nat → Int) (n j : Nat) : xR → xR
  | .inl x => .inl x
  | .inr s => if ¬ sgIs T n s.1 94 then .inr s
    else if ¬ isNb T n (nxT T n s.1) then .inl (1, nxT T n s.1, j)
    else if 6 < numV T n (nxT T n s.1) then .inl (10, nxT T n s.1, j)
    else .inr (nxT T n (nxT T n s.1), s.2.1 ++ [(94, numV T n (nxT T n s.1))], s.2.2)
def pwR (T : Nat → Int) (n : Nat) (rc : Nat → xst → xR) (j : Nat) (s : xst) : xR := pwC T n j (ptR T n rc j s)
def xBind (r : xR) (f : xst → xR) : xR := match r with
  | .inl x => .inl x
  | .inr s => f s
/-- a sign that joins is put behind -/
def xPut (c : Int) (s : xst) : xst := (s.1, s.2.1 ++ [(c, 0)], s.2.2)
def pdL (T : Nat → Int) (n : Nat) (rc : Nat → xst → xR) (j : Nat) : Nat → xst → xR
  | 0, s => .inr s
  | m + 1, s => if ¬ sgIs T n s.1 42 then .inr s else xBind (pwR T n rc j (nxT T n s.1, s.2)) (fun s' => pdL T n rc j m (xPut 42 s'))
def pdR (T : Nat → Int) (n : Nat) (rc : Nat → xst → xR) (j : Nat) (s : xst) : xR := xBind (pwR T n rc j s) (pdL T n rc j 61)
def smL (T : Nat → Int) (n : Nat) (rc : Nat → xst → xR) (j : Nat) : Nat → xst → xR
  | 0, s => .inr s
  | m + 1, s => if ¬ (sgIs T n s.1 43 ∨ sgIs T n s.1 45) then .inr s else xBind (pdR T n rc j (nxT T n s.1, s.2)) (fun s' => smL T n rc j m (xPut (sgnV T n s.1) s'))
def smB (T : Nat → Int) (n : Nat) (rc : Nat → xst → xR) (j : Nat) (s : xst) : xR := xBind (pdR T n rc j s) (smL T n rc j 61)
/-- a sum, that deep -/
def sxR (T : Nat → Int) (n : Nat) : Nat → Nat → xst → xR
  | 0, j, s => .inl (11, s.1, j)
  | d + 1, j, s => smB T n (sxR T n d) j s
/-- both sides: a fault (kind, place, side, inner), or the codes' ends and what is read -/
def idR (T : Nat → Int) (n : Nat) : (Int × Nat × Nat × Int) ⊕ (Nat × xst) := match sxR T n 8 0 (sk T n 0, [], 0, 0) with
  | .inl (k, q, i) => .inl (k, q, 0, i)
  | .inr s => if ¬ sgIs T n s.1 61 then .inl (1, s.1, 0, 0) else match sxR T n 8 0 (nxT T n s.1, s.2) with
    | .inl (k, q, i) => .inl (k, q, 1, i)
    | .inr s' => if srt T n s'.1 ≠ 0 then .inl (1, s'.1, 1, 0) else .inr (s.2.1.length, s')
/-- how a reading grows: places, parts, codes; what it keeps of codes -/
abbrev cOk (c : Int × Int) : Prop := (c.1 = 0 ∧ 0 ≤ c.2 ∧ c.2 < 10000) ∨ (c.1 = 1 ∧ 0 ≤ c.2 ∧ c.2 ≤ 5) ∨ (c.1 = 94 ∧ 0 ≤ c.2 ∧ c.2 ≤ 6) ∨ c.1 = 42 ∨ c.1 = 43 ∨ c.1 = 45
def xOk (n : Nat) (s : xst) : Prop := s.1 ≤ n ∧ s.2.2.1 ≤ 60 ∧ s.2.1.length ≤ 3 * s.2.2.1 ∧ s.2.2.2 < 64 ∧ ∀ c ∈ s.2.1, cOk c
def xGr (n e : Nat) (s s' : xst) : Prop := xOk n s' ∧ s.2.2.1 < s'.2.2.1 ∧ s'.2.1.length + e + 3 * s.2.2.1 ≤ s.2.1.length + 3 * s'.2.2.1
