/-! L3: rows made anew -/
section MADE
variable {gv : Nat → Int} {B n d : Nat} {h : AH}
/-- an empty solid's cell is made -/
theorem c_made (l : LX B n h) (hd : 10 ≤ d) (hn : n ≤ 52) :
    Vt 2 (cll PP (ev PP (gsF gv) B) d 349 [(2, rf (B + 51))] h) (fun v h' => v = rf (hnx h) ∧ h' = hnew h (3, 24 * n * n) (24 * n * n)) := by
  have hN := rows_le hn
  refine Vt.into (D := 9) hd (Nat.le_of_ble_eq_true rfl) rfl (fun d hd => Ends.eq (b349_0 l hd) ?_)
  (repeat' first
    | (exfalso; omega)
    | refine Ends.g (by first | ((repeat' (refine And.intro ?_ ?_)) <;> first | exact rf_pos _ | exact trivial | rfl | assumption | omega | decide)) ?_
    | refine Ends.b0 (fun _ => ?_) (fun _ => ?_)
    | refine Ends.b1 (fun _ => ?_) (fun _ => ?_)
    | refine Ends.b2 (fun _ => ?_) (fun _ => ?_)
    | refine Ends.b3 (fun _ => ?_) (fun _ => ?_)
    | refine Ends.b4 (fun _ => ?_) (fun _ => ?_)
    | refine Ends.b5 (fun _ => ?_) (fun _ => ?_))
  refine Ends.eq (b349_9 l.new hd) (Ends.sm ⟨_, _, rfl, rfl, rfl⟩)
theorem Sol.made {hn0 : n ≤ 52} : Sol n (hnew h (3, 24 * n * n) (24 * n * n)) (hnx h) (fun _ _ => false) := by
  refine ⟨by rw [hk_new, if_pos rfl], fun k hk => ?_⟩
  rw [hv_new, if_pos rfl]
  exact ⟨⟨by decide, by decide⟩, fun x _ => by rw [tb_0]; simp⟩
end MADE
