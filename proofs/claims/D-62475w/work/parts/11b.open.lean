theorem v_Pg_open {n : Nat} {a1 : Int32} {σ σ' : Sg} {r : Nat} (h : f_Pg_open a1 σ = some (r, σ')) : r < cnt n 2 := by
  unfold f_Pg_open at h
  obtain ⟨h1, h⟩ := chk_some h
  obtain ⟨σ1, e1, h⟩ := lt_some h
  obtain ⟨h2, h⟩ := chk_some h
  cases h
  exact ve11 h1
