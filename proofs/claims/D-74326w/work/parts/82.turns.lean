set_option maxRecDepth 100000
set_option maxHeartbeats 4000000
/-! turning like terms round: plain, by patterns -/
def upN (f : Nat → Nat) (k v : Nat) : Nat → Nat := fun j => if j = k then v else f j
def cyP (rd : Nat → Nat) : Nat → Nat → Nat → Nat → Option (Nat × Nat)
  | 0, _, _, _ => none
  | f + 1, seen, o, c => if seen / 2 ^ o % 2 = 0 then (if o < 5 then cyP rd f (seen ||| 1 <<< o) (rd o) (c + 1) else none) else (if o < 5 then some (seen, c) else none)
def lnP (rd : Nat → Nat) : Nat → Nat → Nat → (Nat → Nat) → Option (Nat → Nat)
  | 0, _, _, len => some len
  | m + 1, k, seen, len => match cyP rd 6 seen k 0 with
    | none => none
    | some (seen', c) => lnP rd m (k + 1) seen' (upN len k c)
def soB (lk : Nat → Nat → Bool) (a : Nat) : Nat → Nat → (Nat → Nat) → (Nat → Nat)
  | 0, _, len => len
  | m + 1, b, len => soB lk a m (b + 1) (if lk a b = true ∧ len a < len b then upN (upN len a (len b)) b (len a) else len)
def soA (lk : Nat → Nat → Bool) (n : Nat) : Nat → Nat → (Nat → Nat) → (Nat → Nat)
  | 0, _, len => len
  | m + 1, a, len => soA lk n m (a + 1) (soB lk a (n - (a + 1)) (a + 1) len)
abbrev tks : Type := List (List Nat × Nat)
def adK (l : List Nat) : tks → tks
  | [] => [(l, 1)]
  | x :: r => if x.1 = l then (x.1, x.2 + 1) :: r else x :: adK l r
def lfP (lk : Nat → Nat → Bool) (n : Nat) (rd : Nat → Nat) (ks : tks) : Option tks := match lnP rd n 0 0 (fun _ => 0) with
  | none => none
  | some len => if (adK [soA lk n n 0 len 0, soA lk n n 0 len 1, soA lk n n 0 len 2, soA lk n n 0 len 3, soA lk n n 0 len 4] ks).length ≤ 8 then some (adK [soA lk n n 0 len 0, soA lk n n 0 len 1, soA lk n n 0 len 2, soA lk n n 0 len 3, soA lk n n 0 len 4] ks) else none
def tuL (lk : Nat → Nat → Bool) (rc : Nat → (Nat → Nat) → tks → Option tks) (i used : Nat) (rd : Nat → Nat) : Nat → Nat → tks → Option tks
  | 0, _, ks => some ks
  | m + 1, o, ks => if used / 2 ^ o % 2 = 1 ∨ lk i o = false then tuL lk rc i used rd m (o + 1) ks else match rc (used ||| 1 <<< o) (upN rd i o) ks with
    | none => none
    | some ks' => tuL lk rc i used rd m (o + 1) ks'
def tuP (lk : Nat → Nat → Bool) (n : Nat) : Nat → Nat → Nat → (Nat → Nat) → tks → Option tks
  | 0, _, _, _, _ => none
  | d + 1, i, used, rd, ks => if i < n then tuL lk (fun u r k => tuP lk n d (i + 1) u r k) i used rd n 0 ks else lfP lk n rd ks
/-- a pattern: of each term the first that is like it -/
abbrev ptL (pt : List Nat) (i j : Nat) : Bool := pt.getD i 0 == pt.getD j 0
def ptK (pt : List Nat) : Option tks := tuP (ptL pt) pt.length 6 0 0 (fun _ => 0) []
/-- of a kind of turnings the operators, the last one first -/
def moK (pt l : List Nat) : Nat → mon
  | 0 => []
  | i + 1 => if l.getD i 0 = 0 then moK pt l i else (pt.getD i 0, l.getD i 0) :: moK pt l i
def lhP (pt : List Nat) (ks : tks) : ply := ks.map (fun x => ((x.2 : Int), moK pt x.1 pt.length))
def szP (pt : List Nat) (i : Nat) : Nat := pt.count i
def rhP (pt : List Nat) : Nat → ply
  | 0 => [(1, [])]
  | i + 1 => if pt.getD i 0 = i then pMul (zP i (szP pt i)) (rhP pt i) else rhP pt i
def gP (pt : List Nat) : Nat → Nat
  | 0 => 1
  | i + 1 => if pt.getD i 0 = i then fac (szP pt i) * gP pt i else gP pt i
def smK : tks → Nat
  | [] => 0
  | x :: r => smK r + x.2
def suL (l : List Nat) : Nat → Nat
  | 0 => 0
  | i + 1 => suL l i + l.getD i 0
def lnS (pt : List Nat) : Nat → Nat
  | 0 => 0
  | i + 1 => if pt.getD i 0 = i then szP pt i + lnS pt i else lnS pt i
def chk (pt : List Nat) : Bool := match ptK pt with
  | none => false
  | some ks => decide (ks.length ≤ 8) && decide (smK ks = gP pt pt.length) && decide (0 < gP pt pt.length) && decide (gP pt pt.length ≤ 120) && decide (nfP (lhP pt ks) = nfP (rhP pt pt.length)) && ks.all (fun x => decide (x.1.length = 5 ∧ (∀ y ∈ x.1, y ≤ 5) ∧ suL x.1 5 ≤ 5)) && decide (lnS pt pt.length ≤ 5)
def pts : Nat → List (List Nat)
  | 0 => [[]]
  | n + 1 => (pts n).flatMap (fun p => ((List.range n).filter (fun j => p.getD j 0 == j)).map (fun j => p ++ [j]) ++ [p ++ [n]])
theorem chk_1 : (pts 1).all chk = true := by decide +kernel
theorem chk_2 : (pts 2).all chk = true := by decide +kernel
theorem chk_3 : (pts 3).all chk = true := by decide +kernel
theorem chk_4 : (pts 4).all chk = true := by decide +kernel
theorem chk_5 : (pts 5).all chk = true := by decide +kernel
/-- the pattern of a form's terms -/
def pat (ts : List tm) : List Nat := ts.map (fun t => ts.idxOf t)
theorem pat_len (ts : List tm) : (pat ts).length = ts.length := List.length_map _
theorem pat_at {ts : List tm} {i : Nat} {t : tm} (h : ts[i]? = some t) : (pat ts).getD i 0 = ts.idxOf t := by
  unfold pat
  rw [List.getD_eq_getElem?_getD, List.getElem?_map, h]
  rfl
theorem idx_at {ts : List tm} {t : tm} (h : t ∈ ts) : ts[ts.idxOf t]? = some t := by
  have hl := List.idxOf_lt_length_of_mem h
  rw [List.getElem?_eq_getElem hl, List.getElem_idxOf hl]
theorem pat_like {ts : List tm} {i j : Nat} {t u : tm} (hi : ts[i]? = some t) (hj : ts[j]? = some u) : ptL (pat ts) i j = true ↔ t = u := by
  show ((pat ts).getD i 0 == (pat ts).getD j 0) = true ↔ _
  rw [pat_at hi, pat_at hj, beq_iff_eq]
  constructor
  · intro e
    have a := idx_at (List.mem_of_getElem? hi)
    have b := idx_at (List.mem_of_getElem? hj)
    rw [e, b] at a
    cases a; rfl
  · intro e; rw [e]
theorem pat_in : ∀ (n : Nat) (ts : List tm), ts.length = n → pat ts ∈ pts n
  | 0, ts, h => by
    rw [List.length_eq_zero_iff.mp h]
    exact List.mem_singleton.mpr rfl
  | n + 1, ts, h => by
    have hne : ts ≠ [] := fun e => by rw [e] at h; cases h
    have hs : ts = ts.dropLast ++ [ts.getLast hne] := (List.dropLast_concat_getLast hne).symm
    generalize ts.dropLast = us at hs
    generalize ts.getLast hne = t at hs
    subst hs
    have hl : us.length = n := by rw [List.length_append] at h; simp at h; exact h
    have ih := pat_in n us hl
    have e1 : pat (us ++ [t]) = pat us ++ [if t ∈ us then us.idxOf t else n] := by
      unfold pat
      rw [List.map_append]
      congr 1
      · refine List.map_congr_left (fun x hx => ?_)
        rw [List.idxOf_append, if_pos hx]
      · show [(us ++ [t]).idxOf t] = _
        rw [List.idxOf_append, hl]
        split
        · rfl
        · simp
    rw [e1]
    refine List.mem_flatMap.mpr ⟨pat us, ih, ?_⟩
    by_cases ht : t ∈ us
    · rw [if_pos ht]
      refine List.mem_append_left _ (List.mem_map.mpr ⟨us.idxOf t, List.mem_filter.mpr ⟨?_, ?_⟩, rfl⟩)
      · rw [← hl]; exact List.mem_range.mpr (List.idxOf_lt_length_of_mem ht)
      · rw [pat_at (idx_at ht), beq_iff_eq]
    · rw [if_neg ht]
      exact List.mem_append_right _ (List.mem_singleton.mpr rfl)
theorem pat_chk {ts : List tm} (h1 : ts ≠ []) (h5 : ts.length ≤ 5) : chk (pat ts) = true := by
  have hp := pat_in ts.length ts rfl
  have h0 : 0 < ts.length := List.length_pos_iff.mpr h1
  rcases (show ts.length = 1 ∨ ts.length = 2 ∨ ts.length = 3 ∨ ts.length = 4 ∨ ts.length = 5 by omega) with e | e | e | e | e <;> rw [e] at hp
  · exact List.all_eq_true.mp chk_1 _ hp
  · exact List.all_eq_true.mp chk_2 _ hp
  · exact List.all_eq_true.mp chk_3 _ hp
  · exact List.all_eq_true.mp chk_4 _ hp
  · exact List.all_eq_true.mp chk_5 _ hp
/-- what the pattern's turnings come to -/
theorem pat_ok {ts : List tm} (h1 : ts ≠ []) (h5 : ts.length ≤ 5) : ∃ ks, ptK (pat ts) = some ks ∧ ks.length ≤ 8 ∧ smK ks = gP (pat ts) ts.length ∧ 0 < gP (pat ts) ts.length ∧ gP (pat ts) ts.length ≤ 120 ∧ nfP (lhP (pat ts) ks) = nfP (rhP (pat ts) ts.length) ∧ (∀ x ∈ ks, x.1.length = 5 ∧ (∀ y ∈ x.1, y ≤ 5) ∧ suL x.1 5 ≤ 5) ∧ lnS (pat ts) ts.length ≤ 5 := by
  have h := pat_chk h1 h5
  unfold chk at h
  cases hk : ptK (pat ts) with
  | none => rw [hk] at h; cases h
  | some ks =>
    rw [hk] at h
    simp only [Bool.and_eq_true, decide_eq_true_eq, List.all_eq_true, pat_len] at h
    exact ⟨ks, rfl, h.1.1.1.1.1.1, h.1.1.1.1.1.2, h.1.1.1.1.2, h.1.1.1.2, h.1.1.2, h.1.2, h.2⟩
/-! the ways that are unlike -/
def tcnt (t : tm) : Nat := (t.2.2.2 - t.2.2.1 + 1).toNat
def tOp (t : tm) (k : Int) (u : Int → Int) (s : Int) : Int := oP (tv t) t.2.2.1 (tcnt t) k u s
def opT (ts : List tm) : opE := fun c k u s => tOp (ts.getD c (0, 0, 0, 0)) k u s
theorem opT_ok (ts : List tm) : opOk (opT ts) := ⟨fun _ _ _ _ _ => oP_add .., fun _ _ _ _ _ => oP_mul .., fun _ _ _ _ _ _ => oP_comm ..⟩
theorem Ly_op (t : tm) (c : Int) (w : Int → Int) : Ly (c * t.1) t.2.1 t.2.2.1 t.2.2.2 w = tOp t c w := by
  funext s
  unfold Ly uI tOp oP tcnt tv
  exact uN_congr _ (fun j _ => by
    show w (s - c * t.1 * kV t.2.1 (t.2.2.1 + j)) = _
    rw [Int.mul_assoc])
/-- of like terms any so many x that rise; begun at the first of them -/
def unW (ts : List tm) (w0 : Int → Int) : Nat → Int → Int
  | 0 => w0
  | i + 1 => match ts[i]? with
    | none => unW ts w0 i
    | some t => if ts.idxOf t = i then hM (tv t) t.2.2.1 (unW ts w0 i) (tcnt t) (ts.count t) else unW ts w0 i
theorem count_pat {ts : List tm} {i : Nat} {t : tm} (hi : ts[i]? = some t) (he : ts.idxOf t = i) : szP (pat ts) i = ts.count t := by
  unfold szP pat
  rw [List.count_eq_countP, List.countP_map, List.count_eq_countP]
  refine List.countP_congr (fun x hx => ?_)
  show (ts.idxOf x == i) = true ↔ (x == t) = true
  rw [beq_iff_eq, beq_iff_eq, ← he]
  constructor
  · intro e
    have a := idx_at hx
    have b := idx_at (List.mem_of_getElem? hi)
    rw [e, b] at a
    cases a; rfl
  · intro e; rw [e]
theorem rhP_ev {ts : List tm} (h5 : ts.length ≤ 5) (w0 : Int → Int) : ∀ (i : Nat), i ≤ ts.length → ∀ s, eP (opT ts) (rhP (pat ts) i) w0 s = (gP (pat ts) i : Int) * unW ts w0 i s
  | 0, _, s => by
    show 1 * w0 s + 0 = 1 * w0 s
    omega
  | i + 1, hi, s => by
    have ih := rhP_ev h5 w0 i (by omega)
    obtain ⟨t, ht⟩ : ∃ t, ts[i]? = some t := ⟨_, List.getElem?_eq_getElem (by omega)⟩
    unfold rhP gP unW
    rw [pat_at ht, ht]
    simp only []
    by_cases e : ts.idxOf t = i
    · rw [if_pos e, if_pos e, if_pos e, eP_pMul (opT_ok ts), show eP (opT ts) (rhP (pat ts) i) w0 = fun z => (gP (pat ts) i : Int) * unW ts w0 i z from funext ih, count_pat ht e]
      have hc : ts.count t ≤ 5 := Nat.le_trans List.count_le_length h5
      have hd : ts.getD i (0, 0, 0, 0) = t := by rw [List.getD_eq_getElem?_getD, ht]; rfl
      rw [zP_all (P := opT ts) (c := i) (v := tv t) (lo := t.2.2.1) (m := tcnt t) (fun k u s => by unfold opT tOp; rw [hd]) (opT_ok ts) _ s hc, hM_mul, Int.natCast_mul, Int.mul_assoc]
    · rw [if_neg e, if_neg e, if_neg e]
      exact ih s
