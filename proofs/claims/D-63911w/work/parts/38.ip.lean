/-! L2: small members, their answers in place (made by gen_ip.py) -/
section IP
variable {G : GM} {d : Nat} {P : Nat → Int → SM → Prop} {m : SM} {x y : Int}
theorem ipX16_name (ht : m x (-1) = 19) (k : P 0 (m x 0) m) : WV G mX16_name 0 [(1, x)] [] m d P := by
  refine v_ty (fun T => ?_)
  refine v_run 0 1 (pc' := 1) (ls' := [(1, x)]) (st' := [(1, x)]) rfl ?_
  refine v_getf (j := 1) (c := 18) (f := 0) rfl rfl rfl rfl rfl rfl rfl rfl ht ?_
  exact v_iret (j := 2) rfl rfl rfl (T.1 x 18 0 _ rfl rfl ht (by decide)) k
theorem ipX16_value (ht : m x (-1) = 19) (k : P 0 (m x 1) m) : WV G mX16_value 0 [(1, x)] [] m d P := by
  refine v_run 0 1 (pc' := 1) (ls' := [(1, x)]) (st' := [(1, x)]) rfl ?_
  refine v_getf (j := 1) (c := 18) (f := 1) rfl rfl rfl rfl rfl rfl rfl rfl ht ?_
  exact v_aret (j := 2) rfl rfl rfl k
theorem ipX16_type (ht : m x (-1) = 19) (k : P 0 (m x 2) m) : WV G mX16_type 0 [(1, x)] [] m d P := by
  refine v_run 0 1 (pc' := 1) (ls' := [(1, x)]) (st' := [(1, x)]) rfl ?_
  refine v_getf (j := 1) (c := 18) (f := 2) rfl rfl rfl rfl rfl rfl rfl rfl ht ?_
  exact v_aret (j := 2) rfl rfl rfl k
theorem ipX16_outer (ht : m x (-1) = 19) (k : P 0 (m x 3) m) : WV G mX16_outer 0 [(1, x)] [] m d P := by
  refine v_run 0 1 (pc' := 1) (ls' := [(1, x)]) (st' := [(1, x)]) rfl ?_
  refine v_getf (j := 1) (c := 18) (f := 3) rfl rfl rfl rfl rfl rfl rfl rfl ht ?_
  exact v_aret (j := 2) rfl rfl rfl k
theorem ipX12_condition (ht : m x (-1) = 20) (k : P 0 (m x 0) m) : WV G mX12_condition 0 [(1, x)] [] m d P := by
  refine v_ty (fun T => ?_)
  refine v_run 0 1 (pc' := 1) (ls' := [(1, x)]) (st' := [(1, x)]) rfl ?_
  refine v_getf (j := 1) (c := 19) (f := 0) rfl rfl rfl rfl rfl rfl rfl rfl ht ?_
  exact v_iret (j := 2) rfl rfl rfl (T.1 x 19 0 _ rfl rfl ht (by decide)) k
theorem ipX12_place (ht : m x (-1) = 20) (k : P 0 (m x 1) m) : WV G mX12_place 0 [(1, x)] [] m d P := by
  refine v_run 0 1 (pc' := 1) (ls' := [(1, x)]) (st' := [(1, x)]) rfl ?_
  refine v_getf (j := 1) (c := 19) (f := 1) rfl rfl rfl rfl rfl rfl rfl rfl ht ?_
  exact v_iret (j := 2) rfl rfl rfl trivial k
theorem ipX12_letter (ht : m x (-1) = 20) (k : P 0 (m x 2) m) : WV G mX12_letter 0 [(1, x)] [] m d P := by
  refine v_ty (fun T => ?_)
  refine v_run 0 1 (pc' := 1) (ls' := [(1, x)]) (st' := [(1, x)]) rfl ?_
  refine v_getf (j := 1) (c := 19) (f := 2) rfl rfl rfl rfl rfl rfl rfl rfl ht ?_
  exact v_iret (j := 2) rfl rfl rfl (T.1 x 19 2 _ rfl rfl ht (by decide)) k
theorem ipX12_type (ht : m x (-1) = 20) (k : P 0 (m x 3) m) : WV G mX12_type 0 [(1, x)] [] m d P := by
  refine v_run 0 1 (pc' := 1) (ls' := [(1, x)]) (st' := [(1, x)]) rfl ?_
  refine v_getf (j := 1) (c := 19) (f := 3) rfl rfl rfl rfl rfl rfl rfl rfl ht ?_
  exact v_aret (j := 2) rfl rfl rfl k
theorem ipX12_terms (ht : m x (-1) = 20) (k : P 0 (m x 4) m) : WV G mX12_terms 0 [(1, x)] [] m d P := by
  refine v_run 0 1 (pc' := 1) (ls' := [(1, x)]) (st' := [(1, x)]) rfl ?_
  refine v_getf (j := 1) (c := 19) (f := 4) rfl rfl rfl rfl rfl rfl rfl rfl ht ?_
  exact v_aret (j := 2) rfl rfl rfl k
theorem ipX19_place (ht : m x (-1) = 24) (k : P 0 (m x 0) m) : WV G mX19_place 0 [(1, x)] [] m d P := by
  refine v_run 0 1 (pc' := 1) (ls' := [(1, x)]) (st' := [(1, x)]) rfl ?_
  refine v_getf (j := 1) (c := 23) (f := 0) rfl rfl rfl rfl rfl rfl rfl rfl ht ?_
  exact v_iret (j := 2) rfl rfl rfl trivial k
theorem ipX19_letter (ht : m x (-1) = 24) (k : P 0 (m x 2) m) : WV G mX19_letter 0 [(1, x)] [] m d P := by
  refine v_ty (fun T => ?_)
  refine v_run 0 1 (pc' := 1) (ls' := [(1, x)]) (st' := [(1, x)]) rfl ?_
  refine v_getf (j := 1) (c := 23) (f := 2) rfl rfl rfl rfl rfl rfl rfl rfl ht ?_
  exact v_iret (j := 2) rfl rfl rfl (T.1 x 23 2 _ rfl rfl ht (by decide)) k
theorem ipX19_names (ht : m x (-1) = 24) (k : P 0 (m x 3) m) : WV G mX19_names 0 [(1, x)] [] m d P := by
  refine v_run 0 1 (pc' := 1) (ls' := [(1, x)]) (st' := [(1, x)]) rfl ?_
  refine v_getf (j := 1) (c := 23) (f := 3) rfl rfl rfl rfl rfl rfl rfl rfl ht ?_
  exact v_aret (j := 2) rfl rfl rfl k
theorem ipX19_code (ht : m x (-1) = 24) (k : P 0 (m x 4) m) : WV G mX19_code 0 [(1, x)] [] m d P := by
  refine v_run 0 1 (pc' := 1) (ls' := [(1, x)]) (st' := [(1, x)]) rfl ?_
  refine v_getf (j := 1) (c := 23) (f := 4) rfl rfl rfl rfl rfl rfl rfl rfl ht ?_
  exact v_aret (j := 2) rfl rfl rfl k
theorem ipX9_is (ht : m x (-1) = 11) (k : P 0 (if m x 0 = y then 1 else 0) m) : WV G mX9_is 0 [(1, x), (1, y)] [] m d P := by
  refine v_run 0 1 (pc' := 1) (ls' := [(1, x), (1, y)]) (st' := [(1, x)]) rfl ?_
  refine v_getf (j := 1) (c := 10) (f := 0) rfl rfl rfl rfl rfl rfl rfl rfl ht ?_
  refine v_run 2 1 (pc' := 5) (ls' := [(1, x), (1, y)]) (st' := [(1, y), (1, m x 0)]) rfl ?_
  refine v_ane (j := 3) rfl rfl rfl (fun q => ?_) (fun q => ?_)
  · rw [if_neg q] at k
    refine v_run 6 1 (pc' := 13) (ls' := [(1, x), (1, y)]) (st' := [(0, 0)]) rfl ?_
    exact v_iret (j := 7) rfl rfl rfl (Or.inl rfl) k
  · rw [if_pos q] at k
    refine v_run 4 1 (pc' := 9) (ls' := [(1, x), (1, y)]) (st' := [(0, 1)]) rfl ?_
    refine v_goto (j := 5) (tgt := 13) rfl rfl ?_
    exact v_iret (j := 7) rfl rfl rfl (Or.inr rfl) k
theorem ipX10_isVariable (k : P 0 (if 97 ≤ x ∧ x ≤ 122 then 1 else 0) m) : WV G mX10_isVariable 0 [(0, x)] [] m d P := by
  refine v_run 0 2 (pc' := 3) (ls' := [(0, x)]) (st' := [(0, 97), (0, x)]) rfl ?_
  refine v_icmplt (j := 2) rfl rfl rfl (fun q => ?_) (fun q => ?_)
  · rw [if_neg (by omega)] at k
    refine v_run 8 1 (pc' := 17) (ls' := [(0, x)]) (st' := [(0, 0)]) rfl ?_
    exact v_iret (j := 9) rfl rfl rfl (Or.inl rfl) k
  · refine v_run 3 2 (pc' := 9) (ls' := [(0, x)]) (st' := [(0, 122), (0, x)]) rfl ?_
    refine v_icmpgt (j := 5) rfl rfl rfl (fun q2 => ?_) (fun q2 => ?_)
    · rw [if_neg (by omega)] at k
      refine v_run 8 1 (pc' := 17) (ls' := [(0, x)]) (st' := [(0, 0)]) rfl ?_
      exact v_iret (j := 9) rfl rfl rfl (Or.inl rfl) k
    · rw [if_pos ⟨q, q2⟩] at k
      refine v_run 6 1 (pc' := 13) (ls' := [(0, x)]) (st' := [(0, 1)]) rfl ?_
      refine v_goto (j := 7) (tgt := 17) rfl rfl ?_
      exact v_iret (j := 9) rfl rfl rfl (Or.inr rfl) k
theorem ipX10_isLetter (k : P 0 (if 65 ≤ x ∧ x ≤ 90 then 1 else 0) m) : WV G mX10_isLetter 0 [(0, x)] [] m d P := by
  refine v_run 0 2 (pc' := 3) (ls' := [(0, x)]) (st' := [(0, 65), (0, x)]) rfl ?_
  refine v_icmplt (j := 2) rfl rfl rfl (fun q => ?_) (fun q => ?_)
  · rw [if_neg (by omega)] at k
    refine v_run 8 1 (pc' := 17) (ls' := [(0, x)]) (st' := [(0, 0)]) rfl ?_
    exact v_iret (j := 9) rfl rfl rfl (Or.inl rfl) k
  · refine v_run 3 2 (pc' := 9) (ls' := [(0, x)]) (st' := [(0, 90), (0, x)]) rfl ?_
    refine v_icmpgt (j := 5) rfl rfl rfl (fun q2 => ?_) (fun q2 => ?_)
    · rw [if_neg (by omega)] at k
      refine v_run 8 1 (pc' := 17) (ls' := [(0, x)]) (st' := [(0, 0)]) rfl ?_
      exact v_iret (j := 9) rfl rfl rfl (Or.inl rfl) k
    · rw [if_pos ⟨q, q2⟩] at k
      refine v_run 6 1 (pc' := 13) (ls' := [(0, x)]) (st' := [(0, 1)]) rfl ?_
      refine v_goto (j := 7) (tgt := 17) rfl rfl ?_
      exact v_iret (j := 9) rfl rfl rfl (Or.inr rfl) k
theorem ipX10_isDigit (k : P 0 (if 48 ≤ x ∧ x ≤ 57 then 1 else 0) m) : WV G mX10_isDigit 0 [(0, x)] [] m d P := by
  refine v_run 0 2 (pc' := 3) (ls' := [(0, x)]) (st' := [(0, 48), (0, x)]) rfl ?_
  refine v_icmplt (j := 2) rfl rfl rfl (fun q => ?_) (fun q => ?_)
  · rw [if_neg (by omega)] at k
    refine v_run 8 1 (pc' := 17) (ls' := [(0, x)]) (st' := [(0, 0)]) rfl ?_
    exact v_iret (j := 9) rfl rfl rfl (Or.inl rfl) k
  · refine v_run 3 2 (pc' := 9) (ls' := [(0, x)]) (st' := [(0, 57), (0, x)]) rfl ?_
    refine v_icmpgt (j := 5) rfl rfl rfl (fun q2 => ?_) (fun q2 => ?_)
    · rw [if_neg (by omega)] at k
      refine v_run 8 1 (pc' := 17) (ls' := [(0, x)]) (st' := [(0, 0)]) rfl ?_
      exact v_iret (j := 9) rfl rfl rfl (Or.inl rfl) k
    · rw [if_pos ⟨q, q2⟩] at k
      refine v_run 6 1 (pc' := 13) (ls' := [(0, x)]) (st' := [(0, 1)]) rfl ?_
      refine v_goto (j := 7) (tgt := 17) rfl rfl ?_
      exact v_iret (j := 9) rfl rfl rfl (Or.inr rfl) k
end IP
