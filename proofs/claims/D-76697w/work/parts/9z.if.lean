section IFB
theorem v39_back {A : sV} (h : v39 A) : v39 (o_back A).2 := by
  unfold o_back
  split
  · exact h
  · rename_i S e
    exact ⟨h.2 S e, h.2⟩
end IFB
