set_option maxRecDepth 100000
set_option maxHeartbeats 4000000
/-! powers that may go beyond -/
def rsO (a : Int) : Nat → Int → Option Int
  | 0, v => some v
  | m + 1, v => if i64 (v * a) then rsO a m (v * a) else none
theorem mI_twice (S : MS) (k : Nat) (x : Int32) : mI (mI S k x) k x = mI S k x := mI_mI S k x x
theorem m_rs_beyond {post : Int64 → MS → Prop} {S : MS} {a : Int} {n : Nat} (ha : i64 a) (hn : n ≤ 100) (h : ∀ r, i64 r → post (lI r) (mI S 44 1)) : ∀ (m k : Nat) (v : Int), k + m = n → i64 v → wX1_raised_6 post (m + 1) (lI a) (iI n) (lI v) (iI k) (mI S 44 1) := by
  intro m
  induction m with
  | zero =>
    intro k v hk hv
    unfold wX1_raised_6
    rw [iI_le (by omega) (by omega) (by omega) (by omega)]
    exact b_t (by omega) (h v hv)
  | succ m ih =>
    intro k v hk hv
    unfold wX1_raised_6
    rw [iI_le (by omega) (by omega) (by omega) (by omega)]
    refine b_f (by omega) ?_
    have e : iI (k : Int) + 1 = iI ((k + 1 : Nat) : Int) := iI_add k 1
    rw [e]
    have hb := (bm_in (v * a)).1
    have go := ih (k + 1) _ (by omega) hb
    rw [← lI_wrap] at go
    exact m_times hv ha (fun _ => go) (fun _ => by rw [mI_twice]; exact go)
theorem m_rs_6 {post : Int64 → MS → Prop} {S : MS} {a : Int} {n : Nat} (ha : i64 a) (hn : n ≤ 100) : ∀ (m k : Nat) (v : Int), k + m = n → i64 v → (∀ r, rsO a m v = some r → i64 r → post (lI r) S) → (rsO a m v = none → ∀ r, i64 r → post (lI r) (mI S 44 1)) → wX1_raised_6 post (m + 1) (lI a) (iI n) (lI v) (iI k) S := by
  intro m
  induction m with
  | zero =>
    intro k v hk hv h1 h0
    unfold wX1_raised_6
    rw [iI_le (by omega) (by omega) (by omega) (by omega)]
    exact b_t (by omega) (h1 v rfl hv)
  | succ m ih =>
    intro k v hk hv h1 h0
    unfold wX1_raised_6
    rw [iI_le (by omega) (by omega) (by omega) (by omega)]
    refine b_f (by omega) ?_
    have e : iI (k : Int) + 1 = iI ((k + 1 : Nat) : Int) := iI_add k 1
    rw [e]
    refine m_times hv ha (fun g => ?_) (fun g => ?_)
    · refine ih (k + 1) _ (by omega) g (fun r hr hi => h1 r ?_ hi) (fun hr => h0 ?_)
      · unfold rsO; rw [if_pos g]; exact hr
      · unfold rsO; rw [if_pos g]; exact hr
    · have hb := (bm_in (v * a)).1
      have go := m_rs_beyond (post := post) (S := S) ha hn (h0 (by unfold rsO; rw [if_neg g])) m (k + 1) _ (by omega) hb
      rw [← lI_wrap] at go
      exact go
theorem m_raised {post : Int64 → MS → Prop} {S : MS} {a : Int} {n : Nat} (ha : i64 a) (hn : n ≤ 100) (h1 : ∀ r, rsO a n 1 = some r → i64 r → post (lI r) S) (h0 : rsO a n 1 = none → ∀ r, i64 r → post (lI r) (mI S 44 1)) : wX1_raised post S (lI a) (iI n) := ⟨n + 1, m_rs_6 ha hn n 0 1 (by omega) (by omega) h1 h0⟩
