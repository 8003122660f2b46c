set_option maxRecDepth 100000
set_option maxHeartbeats 4000000
/-- from the law's entry to its end -/
theorem whole_start {p : Program} {e : Env} {s : State} {m : MethodId} {below : List Frame} {meth : Method} {c : Code} (l : Launch) (hflags : l.flags = flags0) {b L : Nat} {xs : Nat → Int32} (hL : L ≤ 512) (C0 : lw_At p s m meth c b L xs) : W p l e room_1 s m #[Value.ref b] below meth c s.heap [] 0 0 (lw_Z below #[Value.ref b] s) (entryFrame m ([Value.ref b] : List Value).toArray 4) := by
  obtain ⟨hx, hb, hr, hml, hown, hts, hX, hbl, hlocks, hgv⟩ := C0
  obtain ⟨G, e0, -, hO⟩ := go_all hts hgv
  subst e0
  have hf : l.stackTraces = false := by
    unfold Launch.stackTraces
    rw [hflags]
    decide
  have hl := lv_entry ([.ref b] : List Value) (n := 4) (Nat.le_of_ble_eq_true rfl)
  rw [lg_entry_eq]
  exact lw_begin hf ⟨⟨hx, hb, hml, hown, fun w h => hts w (lw_sub h)⟩, hO.2.2.1, hO, ⟨State.WarmedH.refl _, fun _ _ => rfl⟩, fun q h => h, fun q h => h⟩ hX hbl hr hlocks hL hl
