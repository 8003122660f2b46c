set_option maxRecDepth 100000
set_option maxHeartbeats 4000000
/-! codes are evaluated: values -/
def opV (c y x : Int) : Int := if c = 43 then y + x else if c = 45 then y - x else y * x
def ev1 (lt : Nat → Int) (c : Int × Int) (stk : List Int) : Option (List Int) :=
  if c.1 = 0 then some (c.2 :: stk) else if c.1 = 1 then some (lt c.2.toNat :: stk)
  else if c.1 = 94 then (match stk with
    | x :: r => (rsO x c.2.toNat 1).map (fun z => z :: r)
    | [] => none)
  else match stk with
    | x :: y :: r => if i64 (opV c.1 y x) then some (opV c.1 y x :: r) else none
    | _ => none
def evC (lt : Nat → Int) : List (Int × Int) → List Int → Option (List Int)
  | [], stk => some stk
  | c :: C, stk => (ev1 lt c stk).bind (evC lt C)
/-- a side's value: none if a step goes beyond -/
def sdV (lt : Nat → Int) (X : List (Int × Int)) : Option Int := match evC lt X [] with
  | some (v :: _) => some v
  | _ => none
theorem evC_app (lt : Nat → Int) : ∀ (A B : List (Int × Int)) (s : List Int), evC lt (A ++ B) s = (evC lt A s).bind (evC lt B)
  | [], B, s => rfl
  | c :: A, B, s => by
    show (ev1 lt c s).bind (evC lt (A ++ B)) = ((ev1 lt c s).bind (evC lt A)).bind (evC lt B)
    cases ev1 lt c s with
    | none => rfl
    | some k => exact evC_app lt A B k
/-- a pile that holds a stack, its top last -/
def mPile (S : MS) (stk : List Int) : Prop := ∀ i v, stk[i]? = some v → S.2.2.2 43 (stk.length - 1 - i) = lI v ∧ i64 v
