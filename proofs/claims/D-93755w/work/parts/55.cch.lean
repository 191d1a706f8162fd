/-! as (mine; printed by gen/as_.py): a how taken for one of a kind -/
set_option maxRecDepth 100000
theorem cch_p : ∀ x ∈ ["How", "Gust", "Raft", "Whole", "Panes", "Slope"], packageOf ("WalkingStones$" ++ x) ∈ castPackages_1 := by decide +kernel
/-- whether a how of the kind d is one of the kind k, too -/
def q_und (d : Nat) (k : Int32) : Bool := if k = 1 then decide (d = 1 ∨ d = 2 ∨ d = 3 ∨ d = 4) else if k = 2 then decide (d = 2 ∨ d = 3 ∨ d = 4) else if k = 3 then decide (d = 3) else if k = 4 then decide (d = 4) else if k = 5 then decide (d = 5) else true
theorem cch_01 : cc_chk "WalkingStones$How" "WalkingStones$Gust" = true := by decide +kernel
theorem cch_51 : cc_chk "WalkingStones$Slope" "WalkingStones$Gust" = true := by decide +kernel
theorem cch_02 : cc_chk "WalkingStones$How" "WalkingStones$Raft" = true := by decide +kernel
theorem cch_12 : cc_chk "WalkingStones$Gust" "WalkingStones$Raft" = true := by decide +kernel
theorem cch_52 : cc_chk "WalkingStones$Slope" "WalkingStones$Raft" = true := by decide +kernel
theorem cch_03 : cc_chk "WalkingStones$How" "WalkingStones$Whole" = true := by decide +kernel
theorem cch_13 : cc_chk "WalkingStones$Gust" "WalkingStones$Whole" = true := by decide +kernel
theorem cch_23 : cc_chk "WalkingStones$Raft" "WalkingStones$Whole" = true := by decide +kernel
theorem cch_43 : cc_chk "WalkingStones$Panes" "WalkingStones$Whole" = true := by decide +kernel
theorem cch_53 : cc_chk "WalkingStones$Slope" "WalkingStones$Whole" = true := by decide +kernel
theorem cch_04 : cc_chk "WalkingStones$How" "WalkingStones$Panes" = true := by decide +kernel
theorem cch_14 : cc_chk "WalkingStones$Gust" "WalkingStones$Panes" = true := by decide +kernel
theorem cch_24 : cc_chk "WalkingStones$Raft" "WalkingStones$Panes" = true := by decide +kernel
theorem cch_34 : cc_chk "WalkingStones$Whole" "WalkingStones$Panes" = true := by decide +kernel
theorem cch_54 : cc_chk "WalkingStones$Slope" "WalkingStones$Panes" = true := by decide +kernel
theorem cch_05 : cc_chk "WalkingStones$How" "WalkingStones$Slope" = true := by decide +kernel
theorem cch_15 : cc_chk "WalkingStones$Gust" "WalkingStones$Slope" = true := by decide +kernel
theorem cch_25 : cc_chk "WalkingStones$Raft" "WalkingStones$Slope" = true := by decide +kernel
theorem cch_35 : cc_chk "WalkingStones$Whole" "WalkingStones$Slope" = true := by decide +kernel
theorem cch_45 : cc_chk "WalkingStones$Panes" "WalkingStones$Slope" = true := by decide +kernel
