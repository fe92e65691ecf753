theorem v_TM_valueOf {n : Nat} {a1 : Int32} {a2 : Int64} {a4 : Int32} {σ σ' : Sg} {r : Nat} (h : f_TM_valueOf a1 a2 a4 σ = some (.inl r, σ')) : r < cnt n 5 := by
  unfold f_TM_valueOf at h
  obtain ⟨r3, σ1, h1, h⟩ := bn2_some h
  obtain ⟨x4, h2, h⟩ := bnd_some h
  rcases bnX_some h with ⟨u, σ2, h3, h⟩ | ⟨e, σ2, h3, h⟩
  · obtain ⟨c1, h⟩ := chk_some h
    obtain ⟨c2, h⟩ := chk_some h
    obtain ⟨r5, σ3, h4, h⟩ := bn2_some h
    split at h
    · cases h
    · obtain ⟨c3, h⟩ := chk_some h
      obtain ⟨c4, h⟩ := chk_some h
      obtain ⟨σ4, h5, h⟩ := bnd_some h
      obtain ⟨c5, h⟩ := chk_some h
      cases h
      exact ve15 (i := 1) (n := n) o12 c5
  · cases h
