/-! STATIC FACTS -/
set_option maxRecDepth 100000
/-! UpAndDown: its fields by the entries of its constants, its methods -/
theorem fX0_38 : Fld RX0 38 0 0 := ⟨RX0, TX0, 26, rfl, by decide, in_X0, "UpAndDown", Or.inl rfl, q293⟩
theorem pX0_38 : FldP RX0 "<init>" 38 0 0 (.array (.object "UpAndDown$Word")) := ⟨RX0, TX0, 26, tyX0, rfl, by decide, in_X0, ⟨"UpAndDown", Or.inl rfl, q293⟩, tyX0_ok, nmX0, Or.inr ⟨rfl, rfl, rfl⟩, by decide +kernel⟩
theorem fX0_48 : Fld RX0 48 0 3 := ⟨RX0, TX0, 26, rfl, by decide, in_X0, "UpAndDown", Or.inl rfl, q310⟩
theorem pX0_48 (mn : String) : FldP RX0 mn 48 0 3 (.object "UpAndDown$Table") := ⟨RX0, TX0, 26, tyX0, rfl, by decide, in_X0, ⟨"UpAndDown", Or.inl rfl, q310⟩, tyX0_ok, nmX0, Or.inl rfl, by decide +kernel⟩
theorem fX0_52 : FldN RX0 52 2 1 := ⟨RX1, TX1, 9, rfl, by decide, in_X1, "UpAndDown$Table", "UpAndDown", Or.inl rfl, q221⟩
theorem fX0_58 : Fld RX0 58 0 1 := ⟨RX0, TX0, 26, rfl, by decide, in_X0, "UpAndDown", Or.inl rfl, q300⟩
theorem pX0_58 : FldP RX0 "<init>" 58 0 1 (.array .int) := ⟨RX0, TX0, 26, tyX0, rfl, by decide, in_X0, ⟨"UpAndDown", Or.inl rfl, q300⟩, tyX0_ok, nmX0, Or.inr ⟨rfl, rfl, rfl⟩, by decide +kernel⟩
theorem fX0_62 : FldN RX0 62 2 0 := ⟨RX1, TX1, 9, rfl, by decide, in_X1, "UpAndDown$Table", "UpAndDown", Or.inl rfl, q212⟩
theorem fX0_109 : Fld RX0 109 0 4 := ⟨RX0, TX0, 26, rfl, by decide, in_X0, "UpAndDown", Or.inl rfl, q311⟩
theorem pX0_109 : FldP RX0 "<init>" 109 0 4 (.array (.object "java/lang/String")) := ⟨RX0, TX0, 26, tyX0, rfl, by decide, in_X0, ⟨"UpAndDown", Or.inl rfl, q311⟩, tyX0_ok, nmX0, Or.inr ⟨rfl, rfl, rfl⟩, by decide +kernel⟩
theorem fX0_113 : Fld RX0 113 0 5 := ⟨RX0, TX0, 26, rfl, by decide, in_X0, "UpAndDown", Or.inl rfl, q314⟩
theorem pX0_113 : FldP RX0 "<init>" 113 0 5 (.array .byte) := ⟨RX0, TX0, 26, tyX0, rfl, by decide, in_X0, ⟨"UpAndDown", Or.inl rfl, q314⟩, tyX0_ok, nmX0, Or.inr ⟨rfl, rfl, rfl⟩, by decide +kernel⟩
theorem fX0_117 : Fld RX0 117 0 8 := ⟨RX0, TX0, 26, rfl, by decide, in_X0, "UpAndDown", Or.inl rfl, q318⟩
theorem pX0_117 (mn : String) : FldP RX0 mn 117 0 8 (.int) := ⟨RX0, TX0, 26, tyX0, rfl, by decide, in_X0, ⟨"UpAndDown", Or.inl rfl, q318⟩, tyX0_ok, nmX0, Or.inl rfl, by decide +kernel⟩
theorem fX0_120 : Fld RX0 120 0 9 := ⟨RX0, TX0, 26, rfl, by decide, in_X0, "UpAndDown", Or.inl rfl, q319⟩
theorem pX0_120 : FldP RX0 "<init>" 120 0 9 (.array .int) := ⟨RX0, TX0, 26, tyX0, rfl, by decide, in_X0, ⟨"UpAndDown", Or.inl rfl, q319⟩, tyX0_ok, nmX0, Or.inr ⟨rfl, rfl, rfl⟩, by decide +kernel⟩
theorem fX0_123 : Fld RX0 123 0 10 := ⟨RX0, TX0, 26, rfl, by decide, in_X0, "UpAndDown", Or.inl rfl, q320⟩
theorem pX0_123 : FldP RX0 "<init>" 123 0 10 (.array .int) := ⟨RX0, TX0, 26, tyX0, rfl, by decide, in_X0, ⟨"UpAndDown", Or.inl rfl, q320⟩, tyX0_ok, nmX0, Or.inr ⟨rfl, rfl, rfl⟩, by decide +kernel⟩
theorem fX0_126 : Fld RX0 126 0 11 := ⟨RX0, TX0, 26, rfl, by decide, in_X0, "UpAndDown", Or.inl rfl, q321⟩
theorem pX0_126 : FldP RX0 "<init>" 126 0 11 (.array .int) := ⟨RX0, TX0, 26, tyX0, rfl, by decide, in_X0, ⟨"UpAndDown", Or.inl rfl, q321⟩, tyX0_ok, nmX0, Or.inr ⟨rfl, rfl, rfl⟩, by decide +kernel⟩
theorem fX0_129 : Fld RX0 129 0 12 := ⟨RX0, TX0, 26, rfl, by decide, in_X0, "UpAndDown", Or.inl rfl, q322⟩
theorem pX0_129 : FldP RX0 "<init>" 129 0 12 (.array .int) := ⟨RX0, TX0, 26, tyX0, rfl, by decide, in_X0, ⟨"UpAndDown", Or.inl rfl, q322⟩, tyX0_ok, nmX0, Or.inr ⟨rfl, rfl, rfl⟩, by decide +kernel⟩
theorem fX0_132 : Fld RX0 132 0 14 := ⟨RX0, TX0, 26, rfl, by decide, in_X0, "UpAndDown", Or.inl rfl, q324⟩
theorem pX0_132 : FldP RX0 "<init>" 132 0 14 (.array .int) := ⟨RX0, TX0, 26, tyX0, rfl, by decide, in_X0, ⟨"UpAndDown", Or.inl rfl, q324⟩, tyX0_ok, nmX0, Or.inr ⟨rfl, rfl, rfl⟩, by decide +kernel⟩
theorem fX0_135 : Fld RX0 135 0 15 := ⟨RX0, TX0, 26, rfl, by decide, in_X0, "UpAndDown", Or.inl rfl, q325⟩
theorem pX0_135 : FldP RX0 "<init>" 135 0 15 (.array .boolean) := ⟨RX0, TX0, 26, tyX0, rfl, by decide, in_X0, ⟨"UpAndDown", Or.inl rfl, q325⟩, tyX0_ok, nmX0, Or.inr ⟨rfl, rfl, rfl⟩, by decide +kernel⟩
theorem fX0_139 : Fld RX0 139 0 16 := ⟨RX0, TX0, 26, rfl, by decide, in_X0, "UpAndDown", Or.inl rfl, q326⟩
theorem pX0_139 : FldP RX0 "<init>" 139 0 16 (.array .int) := ⟨RX0, TX0, 26, tyX0, rfl, by decide, in_X0, ⟨"UpAndDown", Or.inl rfl, q326⟩, tyX0_ok, nmX0, Or.inr ⟨rfl, rfl, rfl⟩, by decide +kernel⟩
theorem fX0_142 : Fld RX0 142 0 17 := ⟨RX0, TX0, 26, rfl, by decide, in_X0, "UpAndDown", Or.inl rfl, q327⟩
theorem pX0_142 : FldP RX0 "<init>" 142 0 17 (.array .int) := ⟨RX0, TX0, 26, tyX0, rfl, by decide, in_X0, ⟨"UpAndDown", Or.inl rfl, q327⟩, tyX0_ok, nmX0, Or.inr ⟨rfl, rfl, rfl⟩, by decide +kernel⟩
theorem fX0_145 : Fld RX0 145 0 19 := ⟨RX0, TX0, 26, rfl, by decide, in_X0, "UpAndDown", Or.inl rfl, q329⟩
theorem pX0_145 : FldP RX0 "<init>" 145 0 19 (.array .int) := ⟨RX0, TX0, 26, tyX0, rfl, by decide, in_X0, ⟨"UpAndDown", Or.inl rfl, q329⟩, tyX0_ok, nmX0, Or.inr ⟨rfl, rfl, rfl⟩, by decide +kernel⟩
theorem fX0_148 : Fld RX0 148 0 22 := ⟨RX0, TX0, 26, rfl, by decide, in_X0, "UpAndDown", Or.inl rfl, q332⟩
theorem pX0_148 : FldP RX0 "<init>" 148 0 22 (.array .int) := ⟨RX0, TX0, 26, tyX0, rfl, by decide, in_X0, ⟨"UpAndDown", Or.inl rfl, q332⟩, tyX0_ok, nmX0, Or.inr ⟨rfl, rfl, rfl⟩, by decide +kernel⟩
theorem fX0_151 : Fld RX0 151 0 23 := ⟨RX0, TX0, 26, rfl, by decide, in_X0, "UpAndDown", Or.inl rfl, q333⟩
theorem pX0_151 : FldP RX0 "<init>" 151 0 23 (.array .int) := ⟨RX0, TX0, 26, tyX0, rfl, by decide, in_X0, ⟨"UpAndDown", Or.inl rfl, q333⟩, tyX0_ok, nmX0, Or.inr ⟨rfl, rfl, rfl⟩, by decide +kernel⟩
theorem fX0_157 : Fld RX0 157 0 24 := ⟨RX0, TX0, 26, rfl, by decide, in_X0, "UpAndDown", Or.inl rfl, q334⟩
theorem pX0_157 : FldP RX0 "<init>" 157 0 24 (.array (.object "UpAndDown$Slot")) := ⟨RX0, TX0, 26, tyX0, rfl, by decide, in_X0, ⟨"UpAndDown", Or.inl rfl, q334⟩, tyX0_ok, nmX0, Or.inr ⟨rfl, rfl, rfl⟩, by decide +kernel⟩
theorem fX0_161 : Fld RX0 161 0 25 := ⟨RX0, TX0, 26, rfl, by decide, in_X0, "UpAndDown", Or.inl rfl, q335⟩
theorem pX0_161 : FldP RX0 "<init>" 161 0 25 (.array (.object "UpAndDown$Table")) := ⟨RX0, TX0, 26, tyX0, rfl, by decide, in_X0, ⟨"UpAndDown", Or.inl rfl, q335⟩, tyX0_ok, nmX0, Or.inr ⟨rfl, rfl, rfl⟩, by decide +kernel⟩
theorem fX0_165 : Fld RX0 165 0 6 := ⟨RX0, TX0, 26, rfl, by decide, in_X0, "UpAndDown", Or.inl rfl, q316⟩
theorem pX0_165 (mn : String) : FldP RX0 mn 165 0 6 (.int) := ⟨RX0, TX0, 26, tyX0, rfl, by decide, in_X0, ⟨"UpAndDown", Or.inl rfl, q316⟩, tyX0_ok, nmX0, Or.inl rfl, by decide +kernel⟩
theorem fX0_183 : Fld RX0 183 0 13 := ⟨RX0, TX0, 26, rfl, by decide, in_X0, "UpAndDown", Or.inl rfl, q323⟩
theorem pX0_183 (mn : String) : FldP RX0 mn 183 0 13 (.boolean) := ⟨RX0, TX0, 26, tyX0, rfl, by decide, in_X0, ⟨"UpAndDown", Or.inl rfl, q323⟩, tyX0_ok, nmX0, Or.inl rfl, by decide +kernel⟩
theorem fX0_187 : Fld RX0 187 0 7 := ⟨RX0, TX0, 26, rfl, by decide, in_X0, "UpAndDown", Or.inl rfl, q317⟩
theorem pX0_187 (mn : String) : FldP RX0 mn 187 0 7 (.int) := ⟨RX0, TX0, 26, tyX0, rfl, by decide, in_X0, ⟨"UpAndDown", Or.inl rfl, q317⟩, tyX0_ok, nmX0, Or.inl rfl, by decide +kernel⟩
theorem fX0_190 : FldN RX0 190 2 3 := ⟨RX1, TX1, 9, rfl, by decide, in_X1, "UpAndDown$Table", "UpAndDown", Or.inl rfl, q227⟩
theorem fX0_195 : FldN RX0 195 6 6 := ⟨RX5, TX5, 8, rfl, by decide, in_X5, "UpAndDown$Fault", "UpAndDown", Or.inl rfl, q599⟩
theorem fX0_198 : FldN RX0 198 6 7 := ⟨RX5, TX5, 8, rfl, by decide, in_X5, "UpAndDown$Fault", "UpAndDown", Or.inl rfl, q601⟩
theorem fX0_201 : FldN RX0 201 2 2 := ⟨RX1, TX1, 9, rfl, by decide, in_X1, "UpAndDown$Table", "UpAndDown", Or.inl rfl, q225⟩
theorem fX0_204 : FldN RX0 204 2 5 := ⟨RX1, TX1, 9, rfl, by decide, in_X1, "UpAndDown$Table", "UpAndDown", Or.inl rfl, q232⟩
-- ref UpAndDown$Word
-- ref UpAndDown$Word
theorem fX0_258 : Fld RX0 258 0 2 := ⟨RX0, TX0, 26, rfl, by decide, in_X0, "UpAndDown", Or.inl rfl, q303⟩
theorem pX0_258 (mn : String) : FldP RX0 mn 258 0 2 (.int) := ⟨RX0, TX0, 26, tyX0, rfl, by decide, in_X0, ⟨"UpAndDown", Or.inl rfl, q303⟩, tyX0_ok, nmX0, Or.inl rfl, by decide +kernel⟩
theorem fX0_330 : Fld RX0 330 0 18 := ⟨RX0, TX0, 26, rfl, by decide, in_X0, "UpAndDown", Or.inl rfl, q328⟩
theorem pX0_330 (mn : String) : FldP RX0 mn 330 0 18 (.int) := ⟨RX0, TX0, 26, tyX0, rfl, by decide, in_X0, ⟨"UpAndDown", Or.inl rfl, q328⟩, tyX0_ok, nmX0, Or.inl rfl, by decide +kernel⟩
theorem fX0_333 : FldN RX0 333 2 8 := ⟨RX1, TX1, 9, rfl, by decide, in_X1, "UpAndDown$Table", "UpAndDown", Or.inl rfl, q241⟩
theorem fX0_367 : FldN RX0 367 2 7 := ⟨RX1, TX1, 9, rfl, by decide, in_X1, "UpAndDown$Table", "UpAndDown", Or.inl rfl, q238⟩
theorem fX0_370 : FldN RX0 370 2 6 := ⟨RX1, TX1, 9, rfl, by decide, in_X1, "UpAndDown$Table", "UpAndDown", Or.inl rfl, q235⟩
theorem fX0_380 : Fld RX0 380 0 20 := ⟨RX0, TX0, 26, rfl, by decide, in_X0, "UpAndDown", Or.inl rfl, q330⟩
theorem pX0_380 (mn : String) : FldP RX0 mn 380 0 20 (.int) := ⟨RX0, TX0, 26, tyX0, rfl, by decide, in_X0, ⟨"UpAndDown", Or.inl rfl, q330⟩, tyX0_ok, nmX0, Or.inl rfl, by decide +kernel⟩
theorem fX0_383 : Fld RX0 383 0 21 := ⟨RX0, TX0, 26, rfl, by decide, in_X0, "UpAndDown", Or.inl rfl, q331⟩
theorem pX0_383 (mn : String) : FldP RX0 mn 383 0 21 (.int) := ⟨RX0, TX0, 26, tyX0, rfl, by decide, in_X0, ⟨"UpAndDown", Or.inl rfl, q331⟩, tyX0_ok, nmX0, Or.inl rfl, by decide +kernel⟩
theorem fX0_431 : FldN RX0 431 4 0 := ⟨RX2, TX2, 1, rfl, by decide, in_X2, "UpAndDown$Slot", "UpAndDown", Or.inl rfl, q286⟩
def mX0_init : MI := (yX0_init, cX0_init, 1, none, [])
theorem iX0_init : IOK mX0_init 0 := ⟨rfl, by decide, ⟨by decide +kernel, by decide +kernel, by decide +kernel⟩, rfl, rfl, q169, q122, q170⟩
def mX0_feed : MI := (yX0_feed, cX0_feed, 6, some (.int), [])
theorem vX0_feed : VOK mX0_feed 5 := ⟨rfl, by decide, ⟨by decide +kernel, by decide +kernel, by decide +kernel⟩, q390, q391, q122, q392⟩
def mX0_puts : MI := (yX0_puts, cX0_puts, 3, none, [])
theorem vX0_puts : VOK mX0_puts 1 := ⟨rfl, by decide, ⟨by decide +kernel, by decide +kernel, by decide +kernel⟩, q395, qs0, q122, q396⟩
def mX0_end : MI := (yX0_end, cX0_end, 2, some (.int), [])
theorem vX0_end : VOK mX0_end 1 := ⟨rfl, by decide, ⟨by decide +kernel, by decide +kernel, by decide +kernel⟩, q398, q399, q122, q400⟩
def mX0_isIn : MI := (yX0_isIn, cX0_isIn, 6, some (.boolean), [])
theorem vX0_isIn : SOK mX0_isIn 3 := ⟨rfl, by decide, ⟨by decide +kernel, by decide +kernel, by decide +kernel⟩, q402, q122, q403⟩
def mX0_table : MI := (yX0_table, cX0_table, 4, some (.int), [(0, 38, 45, 193), (0, 38, 72, 0), (45, 65, 72, 0)])
def mX0_newWord : MI := (yX0_newWord, cX0_newWord, 3, some (.object "UpAndDown$Word"), [])
theorem vX0_newWord : VOK mX0_newWord 2 := ⟨rfl, by decide, ⟨by decide +kernel, by decide +kernel, by decide +kernel⟩, q656, qs17, q122, q657⟩
def mX0_fault : MI := (yX0_fault, cX0_fault, 2, some (.int), [])
theorem vX0_fault : VOK mX0_fault 1 := ⟨rfl, by decide, ⟨by decide +kernel, by decide +kernel, by decide +kernel⟩, q918, q919, q122, q920⟩
def mX0_word : MI := (yX0_word, cX0_word, 4, some (.int), [])
theorem vX0_word : VOK mX0_word 2 := ⟨rfl, by decide, ⟨by decide +kernel, by decide +kernel, by decide +kernel⟩, q922, q923, q122, q924⟩
def mX0_isWord : MI := (yX0_isWord, cX0_isWord, 2, some (.boolean), [])
theorem vX0_isWord : VOK mX0_isWord 1 := ⟨rfl, by decide, ⟨by decide +kernel, by decide +kernel, by decide +kernel⟩, q927, qs22, q122, q928⟩
def mX0_isOneOf : MI := (yX0_isOneOf, cX0_isOneOf, 2, some (.boolean), [])
theorem vX0_isOneOf : SOK mX0_isOneOf 2 := ⟨rfl, by decide, ⟨by decide +kernel, by decide +kernel, by decide +kernel⟩, q931, q122, q932⟩
def mX0_turn : MI := (yX0_turn, cX0_turn, 6, some (.int), [])
theorem vX0_turn : VOK mX0_turn 3 := ⟨rfl, by decide, ⟨by decide +kernel, by decide +kernel, by decide +kernel⟩, q946, q947, q122, q948⟩
def mX0_size : MI := (yX0_size, cX0_size, 1, some (.int), [])
theorem vX0_size : VOK mX0_size 0 := ⟨rfl, by decide, ⟨by decide +kernel, by decide +kernel, by decide +kernel⟩, q970, q971, q122, q972⟩
def mX0_isTable : MI := (yX0_isTable, cX0_isTable, 1, some (.boolean), [])
theorem vX0_isTable : VOK mX0_isTable 0 := ⟨rfl, by decide, ⟨by decide +kernel, by decide +kernel, by decide +kernel⟩, q975, qs23, q122, q976⟩
def mX0_figure : MI := (yX0_figure, cX0_figure, 3, some (.int), [])
theorem vX0_figure : VOK mX0_figure 2 := ⟨rfl, by decide, ⟨by decide +kernel, by decide +kernel, by decide +kernel⟩, q978, q979, q122, q980⟩
def mX0_isNumber : MI := (yX0_isNumber, cX0_isNumber, 3, some (.boolean), [])
theorem vX0_isNumber : VOK mX0_isNumber 1 := ⟨rfl, by decide, ⟨by decide +kernel, by decide +kernel, by decide +kernel⟩, q983, qs24, q122, q984⟩
def mX0_lays : MI := (yX0_lays, cX0_lays, 4, none, [])
theorem vX0_lays : VOK mX0_lays 1 := ⟨rfl, by decide, ⟨by decide +kernel, by decide +kernel, by decide +kernel⟩, q987, qs25, q122, q988⟩
def mX0_next : MI := (yX0_next, cX0_next, 2, some (.int), [])
theorem vX0_next : VOK mX0_next 1 := ⟨rfl, by decide, ⟨by decide +kernel, by decide +kernel, by decide +kernel⟩, q990, q991, q122, q992⟩
def mX0_laysOut : MI := (yX0_laysOut, cX0_laysOut, 2, none, [])
theorem vX0_laysOut : VOK mX0_laysOut 0 := ⟨rfl, by decide, ⟨by decide +kernel, by decide +kernel, by decide +kernel⟩, q995, qs26, q122, q996⟩
def mX0_goes : MI := (yX0_goes, cX0_goes, 7, some (.int), [])
theorem vX0_goes : VOK mX0_goes 4 := ⟨rfl, by decide, ⟨by decide +kernel, by decide +kernel, by decide +kernel⟩, q999, qs27, q122, q1000⟩
def mX0_does : MI := (yX0_does, cX0_does, 3, some (.int), [])
theorem vX0_does : VOK mX0_does 2 := ⟨rfl, by decide, ⟨by decide +kernel, by decide +kernel, by decide +kernel⟩, q1003, qs28, q122, q1004⟩
def mX0_sorts : MI := (yX0_sorts, cX0_sorts, 3, none, [])
theorem vX0_sorts : VOK mX0_sorts 0 := ⟨rfl, by decide, ⟨by decide +kernel, by decide +kernel, by decide +kernel⟩, q1020, qs29, q122, q1021⟩
def mX0_trades : MI := (yX0_trades, cX0_trades, 4, none, [])
theorem vX0_trades : VOK mX0_trades 2 := ⟨rfl, by decide, ⟨by decide +kernel, by decide +kernel, by decide +kernel⟩, q1024, qs30, q122, q1025⟩
def mX0_joined : MI := (yX0_joined, cX0_joined, 6, some (.long), [])
theorem vX0_joined : VOK mX0_joined 2 := ⟨rfl, by decide, ⟨by decide +kernel, by decide +kernel, by decide +kernel⟩, q1028, qs31, q122, q1029⟩
def mX0_turns : MI := (yX0_turns, cX0_turns, 3, none, [])
theorem vX0_turns : VOK mX0_turns 0 := ⟨rfl, by decide, ⟨by decide +kernel, by decide +kernel, by decide +kernel⟩, q1050, qs33, q122, q1051⟩
def mX0_laysRounds : MI := (yX0_laysRounds, cX0_laysRounds, 6, none, [])
theorem vX0_laysRounds : VOK mX0_laysRounds 0 := ⟨rfl, by decide, ⟨by decide +kernel, by decide +kernel, by decide +kernel⟩, q1082, qs34, q122, q1083⟩
def mX0_laysRound : MI := (yX0_laysRound, cX0_laysRound, 5, none, [])
theorem vX0_laysRound : VOK mX0_laysRound 2 := ⟨rfl, by decide, ⟨by decide +kernel, by decide +kernel, by decide +kernel⟩, q1086, qs35, q122, q1087⟩
def mX0_through : MI := (yX0_through, cX0_through, 3, some (.int), [])
theorem vX0_through : VOK mX0_through 2 := ⟨rfl, by decide, ⟨by decide +kernel, by decide +kernel, by decide +kernel⟩, q1090, q1091, q122, q1092⟩
def mX0_after : MI := (yX0_after, cX0_after, 3, some (.int), [])
theorem vX0_after : VOK mX0_after 2 := ⟨rfl, by decide, ⟨by decide +kernel, by decide +kernel, by decide +kernel⟩, q1094, q1095, q122, q1096⟩
def mX0_afterOf : MI := (yX0_afterOf, cX0_afterOf, 5, some (.int), [])
theorem vX0_afterOf : VOK mX0_afterOf 2 := ⟨rfl, by decide, ⟨by decide +kernel, by decide +kernel, by decide +kernel⟩, q1100, qs36, q122, q1101⟩
def mX0_ends : MI := (yX0_ends, cX0_ends, 3, some (.int), [])
theorem vX0_ends : VOK mX0_ends 2 := ⟨rfl, by decide, ⟨by decide +kernel, by decide +kernel, by decide +kernel⟩, q1103, q1104, q122, q1105⟩
def mX0_rounds : MI := (yX0_rounds, cX0_rounds, 4, some (.int), [])
theorem vX0_rounds : VOK mX0_rounds 1 := ⟨rfl, by decide, ⟨by decide +kernel, by decide +kernel, by decide +kernel⟩, q1107, q1108, q122, q1109⟩
def mX0_roundsMany : MI := (yX0_roundsMany, cX0_roundsMany, 3, some (.int), [])
theorem vX0_roundsMany : VOK mX0_roundsMany 0 := ⟨rfl, by decide, ⟨by decide +kernel, by decide +kernel, by decide +kernel⟩, q1112, qs37, q122, q1113⟩
def mX0_isLeast : MI := (yX0_isLeast, cX0_isLeast, 2, some (.boolean), [])
theorem vX0_isLeast : VOK mX0_isLeast 1 := ⟨rfl, by decide, ⟨by decide +kernel, by decide +kernel, by decide +kernel⟩, q1116, qs38, q122, q1117⟩
def mX0_longestRound : MI := (yX0_longestRound, cX0_longestRound, 3, some (.int), [])
theorem vX0_longestRound : VOK mX0_longestRound 0 := ⟨rfl, by decide, ⟨by decide +kernel, by decide +kernel, by decide +kernel⟩, q1120, qs39, q122, q1121⟩
def mX0_round : MI := (yX0_round, cX0_round, 7, some (.int), [])
theorem vX0_round : VOK mX0_round 2 := ⟨rfl, by decide, ⟨by decide +kernel, by decide +kernel, by decide +kernel⟩, q1123, q1124, q122, q1125⟩
def mX0_roundAt : MI := (yX0_roundAt, cX0_roundAt, 4, some (.int), [])
theorem vX0_roundAt : VOK mX0_roundAt 1 := ⟨rfl, by decide, ⟨by decide +kernel, by decide +kernel, by decide +kernel⟩, q1128, qs40, q122, q1129⟩
def mX0_on : MI := (yX0_on, cX0_on, 4, some (.int), [])
theorem vX0_on : VOK mX0_on 2 := ⟨rfl, by decide, ⟨by decide +kernel, by decide +kernel, by decide +kernel⟩, q1132, q1133, q122, q1134⟩
def mX0_most : MI := (yX0_most, cX0_most, 3, some (.int), [])
theorem vX0_most : VOK mX0_most 1 := ⟨rfl, by decide, ⟨by decide +kernel, by decide +kernel, by decide +kernel⟩, q1136, q1137, q122, q1138⟩
def mX0_farthest : MI := (yX0_farthest, cX0_farthest, 3, some (.int), [])
theorem vX0_farthest : VOK mX0_farthest 0 := ⟨rfl, by decide, ⟨by decide +kernel, by decide +kernel, by decide +kernel⟩, q1141, qs41, q122, q1142⟩
def mX0_takeOf : MI := (yX0_takeOf, cX0_takeOf, 4, some (.int), [])
theorem vX0_takeOf : VOK mX0_takeOf 1 := ⟨rfl, by decide, ⟨by decide +kernel, by decide +kernel, by decide +kernel⟩, q1145, qs42, q122, q1146⟩
def mX0_take : MI := (yX0_take, cX0_take, 2, some (.int), [])
theorem vX0_take : VOK mX0_take 1 := ⟨rfl, by decide, ⟨by decide +kernel, by decide +kernel, by decide +kernel⟩, q1148, q1149, q122, q1150⟩
def mX0_gardens : MI := (yX0_gardens, cX0_gardens, 3, some (.int), [])
theorem vX0_gardens : VOK mX0_gardens 0 := ⟨rfl, by decide, ⟨by decide +kernel, by decide +kernel, by decide +kernel⟩, q1152, q1153, q122, q1154⟩
def mX0_fillNexts : MI := (yX0_fillNexts, cX0_fillNexts, 2, none, [])
theorem vX0_fillNexts : VOK mX0_fillNexts 0 := ⟨rfl, by decide, ⟨by decide +kernel, by decide +kernel, by decide +kernel⟩, q1157, qs43, q122, q1158⟩
def mX0_garden : MI := (yX0_garden, cX0_garden, 4, some (.int), [])
theorem vX0_garden : VOK mX0_garden 1 := ⟨rfl, by decide, ⟨by decide +kernel, by decide +kernel, by decide +kernel⟩, q1160, q1161, q122, q1162⟩
def mX0_from : MI := (yX0_from, cX0_from, 5, some (.int), [])
theorem vX0_from : VOK mX0_from 2 := ⟨rfl, by decide, ⟨by decide +kernel, by decide +kernel, by decide +kernel⟩, q1164, q1165, q122, q1166⟩
def mX0_back : MI := (yX0_back, cX0_back, 6, some (.int), [])
theorem vX0_back : VOK mX0_back 2 := ⟨rfl, by decide, ⟨by decide +kernel, by decide +kernel, by decide +kernel⟩, q1168, q1169, q122, q1170⟩
def mX0_meet : MI := (yX0_meet, cX0_meet, 7, some (.int), [])
theorem vX0_meet : VOK mX0_meet 2 := ⟨rfl, by decide, ⟨by decide +kernel, by decide +kernel, by decide +kernel⟩, q1173, q1174, q122, q1175⟩
def mX0_join : MI := (yX0_join, cX0_join, 6, some (.int), [])
theorem vX0_join : VOK mX0_join 3 := ⟨rfl, by decide, ⟨by decide +kernel, by decide +kernel, by decide +kernel⟩, q1177, q1178, q122, q1179⟩
def mX0_fillAway : MI := (yX0_fillAway, cX0_fillAway, 4, none, [])
theorem vX0_fillAway : VOK mX0_fillAway 1 := ⟨rfl, by decide, ⟨by decide +kernel, by decide +kernel, by decide +kernel⟩, q1182, qs44, q122, q1183⟩
def mX0_kinds : MI := (yX0_kinds, cX0_kinds, 3, some (.int), [])
theorem vX0_kinds : VOK mX0_kinds 0 := ⟨rfl, by decide, ⟨by decide +kernel, by decide +kernel, by decide +kernel⟩, q1185, q1186, q122, q1187⟩
def mX0_leastOfKind : MI := (yX0_leastOfKind, cX0_leastOfKind, 2, some (.int), [])
theorem vX0_leastOfKind : VOK mX0_leastOfKind 1 := ⟨rfl, by decide, ⟨by decide +kernel, by decide +kernel, by decide +kernel⟩, q1190, qs45, q122, q1191⟩
def mX0_plainWord : MI := (yX0_plainWord, cX0_plainWord, 2, some (.object "UpAndDown$Word"), [])
theorem vX0_plainWord : VOK mX0_plainWord 1 := ⟨rfl, by decide, ⟨by decide +kernel, by decide +kernel, by decide +kernel⟩, q1194, qs46, q122, q1195⟩
def mX0_kind : MI := (yX0_kind, cX0_kind, 6, some (.int), [])
theorem vX0_kind : VOK mX0_kind 2 := ⟨rfl, by decide, ⟨by decide +kernel, by decide +kernel, by decide +kernel⟩, q1197, q1198, q122, q1199⟩
def mX0_odd : MI := (yX0_odd, cX0_odd, 2, some (.int), [])
theorem vX0_odd : VOK mX0_odd 0 := ⟨rfl, by decide, ⟨by decide +kernel, by decide +kernel, by decide +kernel⟩, q1201, q1202, q122, q1203⟩
def mX0_sure : MI := (yX0_sure, cX0_sure, 4, some (.int), [])
theorem vX0_sure : VOK mX0_sure 3 := ⟨rfl, by decide, ⟨by decide +kernel, by decide +kernel, by decide +kernel⟩, q1205, q1206, q122, q1207⟩
def mX0_isCrowd : MI := (yX0_isCrowd, cX0_isCrowd, 3, some (.boolean), [])
theorem vX0_isCrowd : VOK mX0_isCrowd 2 := ⟨rfl, by decide, ⟨by decide +kernel, by decide +kernel, by decide +kernel⟩, q1210, qs47, q122, q1211⟩
def mX0_crowdBehind : MI := (yX0_crowdBehind, cX0_crowdBehind, 4, none, [])
theorem vX0_crowdBehind : VOK mX0_crowdBehind 2 := ⟨rfl, by decide, ⟨by decide +kernel, by decide +kernel, by decide +kernel⟩, q1214, qs48, q122, q1215⟩
def mX0_begins : MI := (yX0_begins, cX0_begins, 3, none, [])
theorem vX0_begins : VOK mX0_begins 1 := ⟨rfl, by decide, ⟨by decide +kernel, by decide +kernel, by decide +kernel⟩, q1218, qs49, q122, q1219⟩
def mX0_adds : MI := (yX0_adds, cX0_adds, 2, none, [])
theorem vX0_adds : VOK mX0_adds 1 := ⟨rfl, by decide, ⟨by decide +kernel, by decide +kernel, by decide +kernel⟩, q1227, qs50, q122, q1228⟩
def mX0_isOf : MI := (yX0_isOf, cX0_isOf, 5, some (.boolean), [])
theorem vX0_isOf : VOK mX0_isOf 2 := ⟨rfl, by decide, ⟨by decide +kernel, by decide +kernel, by decide +kernel⟩, q1231, qs51, q122, q1232⟩
def mX0_crowdGoes : MI := (yX0_crowdGoes, cX0_crowdGoes, 2, none, [])
theorem vX0_crowdGoes : VOK mX0_crowdGoes 0 := ⟨rfl, by decide, ⟨by decide +kernel, by decide +kernel, by decide +kernel⟩, q1241, qs52, q122, q1242⟩
def mX0_sureAt : MI := (yX0_sureAt, cX0_sureAt, 4, some (.int), [])
theorem vX0_sureAt : VOK mX0_sureAt 1 := ⟨rfl, by decide, ⟨by decide +kernel, by decide +kernel, by decide +kernel⟩, q1245, qs53, q122, q1246⟩
def mX0_fewest : MI := (yX0_fewest, cX0_fewest, 4, some (.int), [])
theorem vX0_fewest : VOK mX0_fewest 2 := ⟨rfl, by decide, ⟨by decide +kernel, by decide +kernel, by decide +kernel⟩, q1248, q1249, q122, q1250⟩
def mX0_left : MI := (yX0_left, cX0_left, 5, some (.int), [])
theorem vX0_left : VOK mX0_left 2 := ⟨rfl, by decide, ⟨by decide +kernel, by decide +kernel, by decide +kernel⟩, q1252, q1253, q122, q1254⟩
def mX0_rest : MI := (yX0_rest, cX0_rest, 4, some (.int), [])
theorem vX0_rest : VOK mX0_rest 2 := ⟨rfl, by decide, ⟨by decide +kernel, by decide +kernel, by decide +kernel⟩, q1256, q1257, q122, q1258⟩
def mX0_isRest : MI := (yX0_isRest, cX0_isRest, 3, some (.boolean), [])
theorem vX0_isRest : VOK mX0_isRest 1 := ⟨rfl, by decide, ⟨by decide +kernel, by decide +kernel, by decide +kernel⟩, q1261, qs54, q122, q1262⟩
def mX0_out : MI := (yX0_out, cX0_out, 8, some (.int), [])
theorem vX0_out : VOK mX0_out 3 := ⟨rfl, by decide, ⟨by decide +kernel, by decide +kernel, by decide +kernel⟩, q1264, q1265, q122, q1266⟩
def mX0_slip : MI := (yX0_slip, cX0_slip, 4, some (.int), [])
theorem vX0_slip : VOK mX0_slip 3 := ⟨rfl, by decide, ⟨by decide +kernel, by decide +kernel, by decide +kernel⟩, q1269, q1270, q122, q1271⟩
def mX0_isSlip : MI := (yX0_isSlip, cX0_isSlip, 3, some (.boolean), [])
theorem vX0_isSlip : VOK mX0_isSlip 2 := ⟨rfl, by decide, ⟨by decide +kernel, by decide +kernel, by decide +kernel⟩, q1274, qs55, q122, q1275⟩
def mX0_slipped : MI := (yX0_slipped, cX0_slipped, 4, some (.int), [])
theorem vX0_slipped : VOK mX0_slipped 3 := ⟨rfl, by decide, ⟨by decide +kernel, by decide +kernel, by decide +kernel⟩, q1278, qs56, q122, q1279⟩
def mX0_fits : MI := (yX0_fits, cX0_fits, 3, some (.int), [])
theorem vX0_fits : VOK mX0_fits 2 := ⟨rfl, by decide, ⟨by decide +kernel, by decide +kernel, by decide +kernel⟩, q1281, q1282, q122, q1283⟩
def mX0_looksForSlips : MI := (yX0_looksForSlips, cX0_looksForSlips, 5, none, [])
theorem vX0_looksForSlips : VOK mX0_looksForSlips 2 := ⟨rfl, by decide, ⟨by decide +kernel, by decide +kernel, by decide +kernel⟩, q1286, qs57, q122, q1287⟩
def mX0_which : MI := (yX0_which, cX0_which, 3, some (.int), [])
theorem vX0_which : VOK mX0_which 2 := ⟨rfl, by decide, ⟨by decide +kernel, by decide +kernel, by decide +kernel⟩, q1289, q1290, q122, q1291⟩
def mX0_find : MI := (yX0_find, cX0_find, 3, some (.int), [])
theorem vX0_find : VOK mX0_find 2 := ⟨rfl, by decide, ⟨by decide +kernel, by decide +kernel, by decide +kernel⟩, q1293, q1294, q122, q1295⟩
def mX0_findOf : MI := (yX0_findOf, cX0_findOf, 4, some (.int), [])
theorem vX0_findOf : VOK mX0_findOf 2 := ⟨rfl, by decide, ⟨by decide +kernel, by decide +kernel, by decide +kernel⟩, q1298, qs58, q122, q1299⟩
def mX0_comes : MI := (yX0_comes, cX0_comes, 8, some (.boolean), [])
theorem vX0_comes : VOK mX0_comes 4 := ⟨rfl, by decide, ⟨by decide +kernel, by decide +kernel, by decide +kernel⟩, q1302, qs59, q122, q1303⟩
def mX0_found : MI := (yX0_found, cX0_found, 5, some (.int), [])
theorem vX0_found : VOK mX0_found 3 := ⟨rfl, by decide, ⟨by decide +kernel, by decide +kernel, by decide +kernel⟩, q1306, q1307, q122, q1308⟩
def mX0_best : MI := (yX0_best, cX0_best, 10, some (.int), [])
theorem vX0_best : VOK mX0_best 2 := ⟨rfl, by decide, ⟨by decide +kernel, by decide +kernel, by decide +kernel⟩, q1310, q1311, q122, q1312⟩
def mX0_worthOf : MI := (yX0_worthOf, cX0_worthOf, 2, some (.int), [])
theorem vX0_worthOf : VOK mX0_worthOf 1 := ⟨rfl, by decide, ⟨by decide +kernel, by decide +kernel, by decide +kernel⟩, q1316, qs60, q122, q1317⟩
def mX0_evening : MI := (yX0_evening, cX0_evening, 11, some (.int), [])
theorem vX0_evening : VOK mX0_evening 3 := ⟨rfl, by decide, ⟨by decide +kernel, by decide +kernel, by decide +kernel⟩, q1319, q1320, q122, q1321⟩
def mX0_isSeed : MI := (yX0_isSeed, cX0_isSeed, 1, some (.boolean), [])
theorem vX0_isSeed : SOK mX0_isSeed 1 := ⟨rfl, by decide, ⟨by decide +kernel, by decide +kernel, by decide +kernel⟩, q1323, q122, q1324⟩
def mX0_judge : MI := (yX0_judge, cX0_judge, 4, some (.int), [(17, 99, 100, 429)])
def mX0_isSlot : MI := (yX0_isSlot, cX0_isSlot, 1, some (.boolean), [])
theorem vX0_isSlot : SOK mX0_isSlot 1 := ⟨rfl, by decide, ⟨by decide +kernel, by decide +kernel, by decide +kernel⟩, q1377, q122, q1378⟩
def mX0_count : MI := (yX0_count, cX0_count, 4, some (.int), [])
theorem vX0_count : VOK mX0_count 1 := ⟨rfl, by decide, ⟨by decide +kernel, by decide +kernel, by decide +kernel⟩, q1393, q1394, q122, q1395⟩
def mX0_told : MI := (yX0_told, cX0_told, 2, some (.int), [])
theorem vX0_told : VOK mX0_told 1 := ⟨rfl, by decide, ⟨by decide +kernel, by decide +kernel, by decide +kernel⟩, q1397, q1398, q122, q1399⟩
def mX0_keep : MI := (yX0_keep, cX0_keep, 2, some (.int), [])
theorem vX0_keep : VOK mX0_keep 1 := ⟨rfl, by decide, ⟨by decide +kernel, by decide +kernel, by decide +kernel⟩, q1401, q1402, q122, q1403⟩
def mX0_restore : MI := (yX0_restore, cX0_restore, 2, some (.int), [])
theorem vX0_restore : VOK mX0_restore 1 := ⟨rfl, by decide, ⟨by decide +kernel, by decide +kernel, by decide +kernel⟩, q1426, q1427, q122, q1428⟩
def mX0_row : MI := (yX0_row, cX0_row, 5, some (.int), [(28, 40, 41, 440)])
def mX0_write : MI := (yX0_write, cX0_write, 6, some (.int), [(10, 22, 23, 429), (10, 22, 28, 446)])
def mX0_paste : MI := (yX0_paste, cX0_paste, 7, some (.int), [(17, 44, 45, 429), (17, 44, 50, 448), (17, 44, 55, 450)])
/-! UpAndDown$Table: its fields by the entries of its constants, its methods -/
theorem fX1_12 : Fld RX1 12 2 5 := ⟨RX1, TX1, 9, rfl, by decide, in_X1, "UpAndDown$Table", Or.inl rfl, q230⟩
theorem pX1_12 : FldP RX1 "<init>" 12 2 5 (.object "java/util/ArrayList") := ⟨RX1, TX1, 9, tyX1, rfl, by decide, in_X1, ⟨"UpAndDown$Table", Or.inl rfl, q230⟩, tyX1_ok, nmX1, Or.inr ⟨rfl, rfl, rfl⟩, by decide +kernel⟩
theorem fX1_18 : Fld RX1 18 2 6 := ⟨RX1, TX1, 9, rfl, by decide, in_X1, "UpAndDown$Table", Or.inl rfl, q233⟩
theorem pX1_18 : FldP RX1 "<init>" 18 2 6 (.object "java/util/ArrayList") := ⟨RX1, TX1, 9, tyX1, rfl, by decide, in_X1, ⟨"UpAndDown$Table", Or.inl rfl, q233⟩, tyX1_ok, nmX1, Or.inr ⟨rfl, rfl, rfl⟩, by decide +kernel⟩
theorem fX1_21 : Fld RX1 21 2 7 := ⟨RX1, TX1, 9, rfl, by decide, in_X1, "UpAndDown$Table", Or.inl rfl, q236⟩
theorem pX1_21 : FldP RX1 "<init>" 21 2 7 (.object "java/util/ArrayList") := ⟨RX1, TX1, 9, tyX1, rfl, by decide, in_X1, ⟨"UpAndDown$Table", Or.inl rfl, q236⟩, tyX1_ok, nmX1, Or.inr ⟨rfl, rfl, rfl⟩, by decide +kernel⟩
theorem fX1_24 : Fld RX1 24 2 8 := ⟨RX1, TX1, 9, rfl, by decide, in_X1, "UpAndDown$Table", Or.inl rfl, q239⟩
theorem pX1_24 : FldP RX1 "<init>" 24 2 8 (.object "java/util/ArrayList") := ⟨RX1, TX1, 9, tyX1, rfl, by decide, in_X1, ⟨"UpAndDown$Table", Or.inl rfl, q239⟩, tyX1_ok, nmX1, Or.inr ⟨rfl, rfl, rfl⟩, by decide +kernel⟩
theorem fX1_28 : Fld RX1 28 2 0 := ⟨RX1, TX1, 9, rfl, by decide, in_X1, "UpAndDown$Table", Or.inl rfl, q211⟩
theorem pX1_28 (mn : String) : FldP RX1 mn 28 2 0 (.int) := ⟨RX1, TX1, 9, tyX1, rfl, by decide, in_X1, ⟨"UpAndDown$Table", Or.inl rfl, q211⟩, tyX1_ok, nmX1, Or.inl rfl, by decide +kernel⟩
theorem fX1_32 : Fld RX1 32 2 1 := ⟨RX1, TX1, 9, rfl, by decide, in_X1, "UpAndDown$Table", Or.inl rfl, q216⟩
theorem pX1_32 (mn : String) : FldP RX1 mn 32 2 1 (.int) := ⟨RX1, TX1, 9, tyX1, rfl, by decide, in_X1, ⟨"UpAndDown$Table", Or.inl rfl, q216⟩, tyX1_ok, nmX1, Or.inl rfl, by decide +kernel⟩
theorem fX1_35 : Fld RX1 35 2 2 := ⟨RX1, TX1, 9, rfl, by decide, in_X1, "UpAndDown$Table", Or.inl rfl, q223⟩
theorem pX1_35 (mn : String) : FldP RX1 mn 35 2 2 (.int) := ⟨RX1, TX1, 9, tyX1, rfl, by decide, in_X1, ⟨"UpAndDown$Table", Or.inl rfl, q223⟩, tyX1_ok, nmX1, Or.inl rfl, by decide +kernel⟩
theorem fX1_38 : Fld RX1 38 2 3 := ⟨RX1, TX1, 9, rfl, by decide, in_X1, "UpAndDown$Table", Or.inl rfl, q226⟩
theorem pX1_38 (mn : String) : FldP RX1 mn 38 2 3 (.int) := ⟨RX1, TX1, 9, tyX1, rfl, by decide, in_X1, ⟨"UpAndDown$Table", Or.inl rfl, q226⟩, tyX1_ok, nmX1, Or.inl rfl, by decide +kernel⟩
def mX1_init : MI := (yX1_init, cX1_init, 1, none, [])
theorem iX1_init : IOK mX1_init 0 := ⟨rfl, by decide, ⟨by decide +kernel, by decide +kernel, by decide +kernel⟩, rfl, rfl, q179, q123, q180⟩
def mX1_copy : MI := (yX1_copy, cX1_copy, 2, some (.object "UpAndDown$Table"), [])
theorem vX1_copy : VOK mX1_copy 0 := ⟨rfl, by decide, ⟨by decide +kernel, by decide +kernel, by decide +kernel⟩, q1405, q1406, q123, q1407⟩
/-! UpAndDown$Slot: its fields by the entries of its constants, its methods -/
theorem fX2_7 : Fld RX2 7 4 0 := ⟨RX2, TX2, 1, rfl, by decide, in_X2, "UpAndDown$Slot", Or.inl rfl, q285⟩
theorem pX2_7 (mn : String) : FldP RX2 mn 7 4 0 (.object "java/lang/Object") := ⟨RX2, TX2, 1, tyX2, rfl, by decide, in_X2, ⟨"UpAndDown$Slot", Or.inl rfl, q285⟩, tyX2_ok, nmX2, Or.inl rfl, by decide +kernel⟩
def mX2_init : MI := (yX2_init, cX2_init, 1, none, [])
theorem iX2_init : IOK mX2_init 0 := ⟨rfl, by decide, ⟨by decide +kernel, by decide +kernel, by decide +kernel⟩, rfl, rfl, q282, q127, q283⟩
def mX2_size : MI := (yX2_size, cX2_size, 1, some (.int), [])
theorem vX2_size : VOK mX2_size 0 := ⟨rfl, by decide, ⟨by decide +kernel, by decide +kernel, by decide +kernel⟩, q1381, q1382, q127, q1383⟩
def mX2_at : MI := (yX2_at, cX2_at, 2, some (.long), [])
theorem vX2_at : VOK mX2_at 1 := ⟨rfl, by decide, ⟨by decide +kernel, by decide +kernel, by decide +kernel⟩, q1389, q1390, q127, q1391⟩
def mX2_make : MI := (yX2_make, cX2_make, 3, none, [])
theorem vX2_make : VOK mX2_make 2 := ⟨rfl, by decide, ⟨by decide +kernel, by decide +kernel, by decide +kernel⟩, q1461, q1462, q127, q1463⟩
def mX2_put : MI := (yX2_put, cX2_put, 4, none, [])
theorem vX2_put : VOK mX2_put 2 := ⟨rfl, by decide, ⟨by decide +kernel, by decide +kernel, by decide +kernel⟩, q1490, q1491, q127, q1492⟩
/-! UpAndDown$Reader: its fields by the entries of its constants, its methods -/
theorem fX4_3 : Fld RX4 3 5 6 := ⟨RX4, TX4, 7, rfl, by decide, in_X4, "UpAndDown$Reader", Or.inl rfl, q446⟩
theorem pX4_3 : FldP RX4 "<init>" 3 5 6 (.object "UpAndDown") := ⟨RX4, TX4, 7, tyX4, rfl, by decide, in_X4, ⟨"UpAndDown$Reader", Or.inl rfl, q446⟩, tyX4_ok, nmX4, Or.inr ⟨rfl, rfl, rfl⟩, by decide +kernel⟩
theorem fX4_15 : FldN RX4 15 0 6 := ⟨RX0, TX0, 26, rfl, by decide, in_X0, "UpAndDown", "UpAndDown", Or.inl rfl, q315⟩
theorem fX4_19 : Fld RX4 19 5 0 := ⟨RX4, TX4, 7, rfl, by decide, in_X4, "UpAndDown$Reader", Or.inl rfl, q440⟩
theorem pX4_19 : FldP RX4 "<init>" 19 5 0 (.int) := ⟨RX4, TX4, 7, tyX4, rfl, by decide, in_X4, ⟨"UpAndDown$Reader", Or.inl rfl, q440⟩, tyX4_ok, nmX4, Or.inr ⟨rfl, rfl, rfl⟩, by decide +kernel⟩
theorem fX4_25 : Fld RX4 25 5 1 := ⟨RX4, TX4, 7, rfl, by decide, in_X4, "UpAndDown$Reader", Or.inl rfl, q441⟩
theorem pX4_25 : FldP RX4 "<init>" 25 5 1 (.object "UpAndDown$Table") := ⟨RX4, TX4, 7, tyX4, rfl, by decide, in_X4, ⟨"UpAndDown$Reader", Or.inl rfl, q441⟩, tyX4_ok, nmX4, Or.inr ⟨rfl, rfl, rfl⟩, by decide +kernel⟩
theorem fX4_35 : Fld RX4 35 5 5 := ⟨RX4, TX4, 7, rfl, by decide, in_X4, "UpAndDown$Reader", Or.inl rfl, q445⟩
theorem pX4_35 (mn : String) : FldP RX4 mn 35 5 5 (.object "UpAndDown$Token") := ⟨RX4, TX4, 7, tyX4, rfl, by decide, in_X4, ⟨"UpAndDown$Reader", Or.inl rfl, q445⟩, tyX4_ok, nmX4, Or.inl rfl, by decide +kernel⟩
theorem fX4_41 : Fld RX4 41 5 2 := ⟨RX4, TX4, 7, rfl, by decide, in_X4, "UpAndDown$Reader", Or.inl rfl, q442⟩
theorem pX4_41 (mn : String) : FldP RX4 mn 41 5 2 (.int) := ⟨RX4, TX4, 7, tyX4, rfl, by decide, in_X4, ⟨"UpAndDown$Reader", Or.inl rfl, q442⟩, tyX4_ok, nmX4, Or.inl rfl, by decide +kernel⟩
theorem fX4_44 : FldN RX4 44 0 5 := ⟨RX0, TX0, 26, rfl, by decide, in_X0, "UpAndDown", "UpAndDown", Or.inl rfl, q313⟩
theorem fX4_52 : Fld RX4 52 5 3 := ⟨RX4, TX4, 7, rfl, by decide, in_X4, "UpAndDown$Reader", Or.inl rfl, q443⟩
theorem pX4_52 (mn : String) : FldP RX4 mn 52 5 3 (.int) := ⟨RX4, TX4, 7, tyX4, rfl, by decide, in_X4, ⟨"UpAndDown$Reader", Or.inl rfl, q443⟩, tyX4_ok, nmX4, Or.inl rfl, by decide +kernel⟩
theorem fX4_62 : Fld RX4 62 5 4 := ⟨RX4, TX4, 7, rfl, by decide, in_X4, "UpAndDown$Reader", Or.inl rfl, q444⟩
theorem pX4_62 (mn : String) : FldP RX4 mn 62 5 4 (.int) := ⟨RX4, TX4, 7, tyX4, rfl, by decide, in_X4, ⟨"UpAndDown$Reader", Or.inl rfl, q444⟩, tyX4_ok, nmX4, Or.inl rfl, by decide +kernel⟩
theorem fX4_121 : FldN RX4 121 2 0 := ⟨RX1, TX1, 9, rfl, by decide, in_X1, "UpAndDown$Table", "UpAndDown", Or.inl rfl, q213⟩
theorem fX4_125 : FldN RX4 125 2 1 := ⟨RX1, TX1, 9, rfl, by decide, in_X1, "UpAndDown$Table", "UpAndDown", Or.inl rfl, q222⟩
theorem fX4_127 : FldN RX4 127 2 2 := ⟨RX1, TX1, 9, rfl, by decide, in_X1, "UpAndDown$Table", "UpAndDown", Or.inl rfl, q224⟩
theorem fX4_128 : FldN RX4 128 0 4 := ⟨RX0, TX0, 26, rfl, by decide, in_X0, "UpAndDown", "UpAndDown", Or.inl rfl, q312⟩
theorem fX4_139 : FldN RX4 139 2 4 := ⟨RX1, TX1, 9, rfl, by decide, in_X1, "UpAndDown$Table", "UpAndDown", Or.inl rfl, q229⟩
theorem fX4_143 : FldN RX4 143 2 5 := ⟨RX1, TX1, 9, rfl, by decide, in_X1, "UpAndDown$Table", "UpAndDown", Or.inl rfl, q231⟩
theorem fX4_161 : FldN RX4 161 2 7 := ⟨RX1, TX1, 9, rfl, by decide, in_X1, "UpAndDown$Table", "UpAndDown", Or.inl rfl, q237⟩
theorem fX4_164 : FldN RX4 164 2 6 := ⟨RX1, TX1, 9, rfl, by decide, in_X1, "UpAndDown$Table", "UpAndDown", Or.inl rfl, q234⟩
theorem fX4_178 : FldN RX4 178 2 8 := ⟨RX1, TX1, 9, rfl, by decide, in_X1, "UpAndDown$Table", "UpAndDown", Or.inl rfl, q240⟩
theorem fX4_187 : FldN RX4 187 2 3 := ⟨RX1, TX1, 9, rfl, by decide, in_X1, "UpAndDown$Table", "UpAndDown", Or.inl rfl, q228⟩
def mX4_init : MI := (yX4_init, cX4_init, 2, none, [])
theorem iX4_init : IOK mX4_init 1 := ⟨rfl, by decide, ⟨by decide +kernel, by decide +kernel, by decide +kernel⟩, rfl, rfl, q412, q129, q413⟩
def mX4_next : MI := (yX4_next, cX4_next, 1, none, [])
theorem vX4_next : VOK mX4_next 0 := ⟨rfl, by decide, ⟨by decide +kernel, by decide +kernel, by decide +kernel⟩, q421, qs1, q129, q422⟩
def mX4_isNext : MI := (yX4_isNext, cX4_isNext, 3, some (.boolean), [])
theorem vX4_isNext : VOK mX4_isNext 2 := ⟨rfl, by decide, ⟨by decide +kernel, by decide +kernel, by decide +kernel⟩, q425, qs2, q129, q426⟩
def mX4_read : MI := (yX4_read, cX4_read, 1, some (.object "UpAndDown$Table"), [])
theorem vX4_read : VOK mX4_read 0 := ⟨rfl, by decide, ⟨by decide +kernel, by decide +kernel, by decide +kernel⟩, q463, q464, q129, q465⟩
def mX4_first : MI := (yX4_first, cX4_first, 3, none, [])
theorem vX4_first : VOK mX4_first 0 := ⟨rfl, by decide, ⟨by decide +kernel, by decide +kernel, by decide +kernel⟩, q468, qs3, q129, q469⟩
def mX4_needs : MI := (yX4_needs, cX4_needs, 2, none, [])
theorem vX4_needs : VOK mX4_needs 1 := ⟨rfl, by decide, ⟨by decide +kernel, by decide +kernel, by decide +kernel⟩, q473, qs4, q129, q474⟩
def mX4_takes : MI := (yX4_takes, cX4_takes, 3, some (.boolean), [])
theorem vX4_takes : VOK mX4_takes 1 := ⟨rfl, by decide, ⟨by decide +kernel, by decide +kernel, by decide +kernel⟩, q477, qs5, q129, q478⟩
def mX4_is : MI := (yX4_is, cX4_is, 3, some (.boolean), [])
theorem vX4_is : VOK mX4_is 1 := ⟨rfl, by decide, ⟨by decide +kernel, by decide +kernel, by decide +kernel⟩, q481, qs6, q129, q482⟩
def mX4_wrong : MI := (yX4_wrong, cX4_wrong, 2, some (.object "UpAndDown$Fault"), [])
theorem vX4_wrong : VOK mX4_wrong 1 := ⟨rfl, by decide, ⟨by decide +kernel, by decide +kernel, by decide +kernel⟩, q533, qs7, q129, q534⟩
def mX4_told : MI := (yX4_told, cX4_told, 4, some (.int), [])
theorem vX4_told : VOK mX4_told 3 := ⟨rfl, by decide, ⟨by decide +kernel, by decide +kernel, by decide +kernel⟩, q622, qs10, q129, q623⟩
def mX4_number : MI := (yX4_number, cX4_number, 4, some (.int), [])
theorem vX4_number : VOK mX4_number 2 := ⟨rfl, by decide, ⟨by decide +kernel, by decide +kernel, by decide +kernel⟩, q626, qs11, q129, q627⟩
def mX4_line : MI := (yX4_line, cX4_line, 1, none, [])
theorem vX4_line : VOK mX4_line 0 := ⟨rfl, by decide, ⟨by decide +kernel, by decide +kernel, by decide +kernel⟩, q631, qs12, q129, q632⟩
def mX4_takes_2 : MI := (yX4_takes_2, cX4_takes_2, 4, some (.boolean), [])
theorem vX4_takes_2 : VOK mX4_takes_2 3 := ⟨rfl, by decide, ⟨by decide +kernel, by decide +kernel, by decide +kernel⟩, q636, qs13, q129, q637⟩
def mX4_doing : MI := (yX4_doing, cX4_doing, 1, none, [])
theorem vX4_doing : VOK mX4_doing 0 := ⟨rfl, by decide, ⟨by decide +kernel, by decide +kernel, by decide +kernel⟩, q640, qs14, q129, q641⟩
def mX4_sort : MI := (yX4_sort, cX4_sort, 2, some (.int), [])
theorem vX4_sort : VOK mX4_sort 0 := ⟨rfl, by decide, ⟨by decide +kernel, by decide +kernel, by decide +kernel⟩, q648, qs15, q129, q649⟩
def mX4_word : MI := (yX4_word, cX4_word, 2, some (.object "UpAndDown$Word"), [])
theorem vX4_word : VOK mX4_word 0 := ⟨rfl, by decide, ⟨by decide +kernel, by decide +kernel, by decide +kernel⟩, q652, qs16, q129, q653⟩
def mX4_slip : MI := (yX4_slip, cX4_slip, 2, none, [])
theorem vX4_slip : VOK mX4_slip 0 := ⟨rfl, by decide, ⟨by decide +kernel, by decide +kernel, by decide +kernel⟩, q893, qs21, q129, q894⟩
/-! UpAndDown$Fault: its fields by the entries of its constants, its methods -/
theorem fX5_7 : Fld RX5 7 6 6 := ⟨RX5, TX5, 8, rfl, by decide, in_X5, "UpAndDown$Fault", Or.inl rfl, q598⟩
theorem pX5_7 : FldP RX5 "<init>" 7 6 6 (.int) := ⟨RX5, TX5, 8, tyX5, rfl, by decide, in_X5, ⟨"UpAndDown$Fault", Or.inl rfl, q598⟩, tyX5_ok, nmX5, Or.inr ⟨rfl, rfl, rfl⟩, by decide +kernel⟩
theorem fX5_13 : Fld RX5 13 6 7 := ⟨RX5, TX5, 8, rfl, by decide, in_X5, "UpAndDown$Fault", Or.inl rfl, q600⟩
theorem pX5_13 : FldP RX5 "<init>" 13 6 7 (.int) := ⟨RX5, TX5, 8, tyX5, rfl, by decide, in_X5, ⟨"UpAndDown$Fault", Or.inl rfl, q600⟩, tyX5_ok, nmX5, Or.inr ⟨rfl, rfl, rfl⟩, by decide +kernel⟩
def mX5_init : MI := (yX5_init, cX5_init, 3, none, [])
theorem iX5_init : IOK mX5_init 2 := ⟨rfl, by decide, ⟨by decide +kernel, by decide +kernel, by decide +kernel⟩, rfl, rfl, q590, q139, q591⟩
/-! UpAndDown$Draws: its fields by the entries of its constants, its methods -/
theorem fX18_9 : Fld RX18 9 7 0 := ⟨RX18, TX18, 1, rfl, by decide, in_X18, "UpAndDown$Draws", Or.inl rfl, q1333⟩
theorem pX18_9 (mn : String) : FldP RX18 mn 9 7 0 (.long) := ⟨RX18, TX18, 1, tyX18, rfl, by decide, in_X18, ⟨"UpAndDown$Draws", Or.inl rfl, q1333⟩, tyX18_ok, nmX18, Or.inl rfl, by decide +kernel⟩
def mX18_init : MI := (yX18_init, cX18_init, 3, none, [])
theorem iX18_init : IOK mX18_init 1 := ⟨rfl, by decide, ⟨by decide +kernel, by decide +kernel, by decide +kernel⟩, rfl, rfl, q1330, q159, q1331⟩
def mX18_next : MI := (yX18_next, cX18_next, 2, some (.int), [])
theorem vX18_next : VOK mX18_next 1 := ⟨rfl, by decide, ⟨by decide +kernel, by decide +kernel, by decide +kernel⟩, q1338, q1339, q159, q1340⟩
/-! UpAndDown$Word: its fields by the entries of its constants, its methods -/
-- ref UpAndDown$Word
-- ref UpAndDown$Word
-- ref UpAndDown$Word
def mX6_init : MI := (yX6_init, cX6_init, 4, none, [])
theorem iX6_init : IOK mX6_init 3 := ⟨rfl, by decide, ⟨by decide +kernel, by decide +kernel, by decide +kernel⟩, rfl, rfl, q667, q140, q668⟩
def mX6_isLike : MI := (yX6_isLike, cX6_isLike, 2, some (.boolean), [])
-- X6_isLike: instanceMethod ('q952', 'lw_all') selects None initialized ('q140', 'lw_all')
/-! UpAndDown$ByFigures: its fields by the entries of its constants, its methods -/
-- ref UpAndDown$ByFigures
def mX7_init : MI := (yX7_init, cX7_init, 4, none, [])
theorem iX7_init : IOK mX7_init 3 := ⟨rfl, by decide, ⟨by decide +kernel, by decide +kernel, by decide +kernel⟩, rfl, rfl, q664, q141, q665⟩
def mX7_does : MI := (yX7_does, cX7_does, 2, some (.long), [])
-- X7_does: instanceMethod ('q1009', 'lw_all') selects None initialized ('q141', 'lw_all')
/-! UpAndDown$Down: its fields by the entries of its constants, its methods -/
theorem fX8_1 : Fld RX8 1 10 4 := ⟨RX8, TX8, 5, rfl, by decide, in_X8, "UpAndDown$Down", Or.inl rfl, q670⟩
theorem fX8_19 : FldN RX8 19 0 1 := ⟨RX0, TX0, 26, rfl, by decide, in_X0, "UpAndDown", "UpAndDown", Or.inl rfl, q295⟩
theorem fX8_23 : FldN RX8 23 0 3 := ⟨RX0, TX0, 26, rfl, by decide, in_X0, "UpAndDown", "UpAndDown", Or.inl rfl, q307⟩
theorem fX8_27 : FldN RX8 27 2 1 := ⟨RX1, TX1, 9, rfl, by decide, in_X1, "UpAndDown$Table", "UpAndDown", Or.inl rfl, q218⟩
def mX8_init : MI := (yX8_init, cX8_init, 3, none, [])
theorem iX8_init : IOK mX8_init 2 := ⟨rfl, by decide, ⟨by decide +kernel, by decide +kernel, by decide +kernel⟩, rfl, rfl, q661, q142, q662⟩
def mX8_ofRow : MI := (yX8_ofRow, cX8_ofRow, 1, some (.long), [])
-- X8_ofRow: instanceMethod ('q1016', 'lw_all') selects None initialized ('q142', 'lw_all')
/-! UpAndDown$Up: its fields by the entries of its constants, its methods -/
theorem fX9_1 : Fld RX9 1 11 5 := ⟨RX9, TX9, 6, rfl, by decide, in_X9, "UpAndDown$Up", Or.inl rfl, q704⟩
theorem fX9_27 : FldN RX9 27 0 1 := ⟨RX0, TX0, 26, rfl, by decide, in_X0, "UpAndDown", "UpAndDown", Or.inl rfl, q299⟩
theorem fX9_31 : FldN RX9 31 0 3 := ⟨RX0, TX0, 26, rfl, by decide, in_X0, "UpAndDown", "UpAndDown", Or.inl rfl, q309⟩
theorem fX9_35 : FldN RX9 35 2 1 := ⟨RX1, TX1, 9, rfl, by decide, in_X1, "UpAndDown$Table", "UpAndDown", Or.inl rfl, q220⟩
def mX9_init : MI := (yX9_init, cX9_init, 2, none, [])
theorem iX9_init : IOK mX9_init 1 := ⟨rfl, by decide, ⟨by decide +kernel, by decide +kernel, by decide +kernel⟩, rfl, rfl, q701, q143, q702⟩
def mX9_ofRow : MI := (yX9_ofRow, cX9_ofRow, 1, some (.long), [])
-- X9_ofRow: instanceMethod ('q1054', 'lw_all') selects None initialized ('q143', 'lw_all')
/-! UpAndDown$Turn: its fields by the entries of its constants, its methods -/
theorem fX10_1 : Fld RX10 1 12 4 := ⟨RX10, TX10, 5, rfl, by decide, in_X10, "UpAndDown$Turn", Or.inl rfl, q719⟩
theorem fX10_19 : FldN RX10 19 0 1 := ⟨RX0, TX0, 26, rfl, by decide, in_X0, "UpAndDown", "UpAndDown", Or.inl rfl, q296⟩
theorem fX10_23 : FldN RX10 23 0 3 := ⟨RX0, TX0, 26, rfl, by decide, in_X0, "UpAndDown", "UpAndDown", Or.inl rfl, q308⟩
theorem fX10_27 : FldN RX10 27 2 1 := ⟨RX1, TX1, 9, rfl, by decide, in_X1, "UpAndDown$Table", "UpAndDown", Or.inl rfl, q219⟩
def mX10_init : MI := (yX10_init, cX10_init, 2, none, [])
theorem iX10_init : IOK mX10_init 1 := ⟨rfl, by decide, ⟨by decide +kernel, by decide +kernel, by decide +kernel⟩, rfl, rfl, q716, q144, q717⟩
def mX10_ofRow : MI := (yX10_ofRow, cX10_ofRow, 1, some (.long), [])
-- X10_ofRow: instanceMethod ('q1046', 'lw_all') selects None initialized ('q144', 'lw_all')
/-! UpAndDown$Keep: its fields by the entries of its constants, its methods -/
theorem fX11_1 : Fld RX11 1 13 3 := ⟨RX11, TX11, 4, rfl, by decide, in_X11, "UpAndDown$Keep", Or.inl rfl, q733⟩
theorem fX11_13 : FldN RX11 13 0 2 := ⟨RX0, TX0, 26, rfl, by decide, in_X0, "UpAndDown", "UpAndDown", Or.inl rfl, q301⟩
def mX11_init : MI := (yX11_init, cX11_init, 2, none, [])
theorem iX11_init : IOK mX11_init 1 := ⟨rfl, by decide, ⟨by decide +kernel, by decide +kernel, by decide +kernel⟩, rfl, rfl, q730, q145, q731⟩
def mX11_does : MI := (yX11_does, cX11_does, 2, some (.long), [])
-- X11_does: instanceMethod ('q1065', 'lw_all') selects None initialized ('q145', 'lw_all')
/-! UpAndDown$Kept: its fields by the entries of its constants, its methods -/
theorem fX12_1 : Fld RX12 1 14 3 := ⟨RX12, TX12, 4, rfl, by decide, in_X12, "UpAndDown$Kept", Or.inl rfl, q746⟩
theorem fX12_13 : Fld RX12 13 14 0 := ⟨RX12, TX12, 4, rfl, by decide, in_X12, "UpAndDown$Kept", Or.inr q674, q673⟩
theorem fX12_17 : FldN RX12 17 0 2 := ⟨RX0, TX0, 26, rfl, by decide, in_X0, "UpAndDown", "UpAndDown", Or.inl rfl, q302⟩
def mX12_init : MI := (yX12_init, cX12_init, 3, none, [])
theorem iX12_init : IOK mX12_init 2 := ⟨rfl, by decide, ⟨by decide +kernel, by decide +kernel, by decide +kernel⟩, rfl, rfl, q743, q146, q744⟩
def mX12_does : MI := (yX12_does, cX12_does, 2, some (.long), [])
-- X12_does: instanceMethod ('q1068', 'lw_all') selects None initialized ('q146', 'lw_all')
/-! UpAndDown$Powers: its fields by the entries of its constants, its methods -/
theorem fX13_1 : Fld RX13 1 15 4 := ⟨RX13, TX13, 5, rfl, by decide, in_X13, "UpAndDown$Powers", Or.inl rfl, q759⟩
theorem fX13_13 : FldN RX13 13 0 3 := ⟨RX0, TX0, 26, rfl, by decide, in_X0, "UpAndDown", "UpAndDown", Or.inl rfl, q305⟩
theorem fX13_19 : FldN RX13 19 2 1 := ⟨RX1, TX1, 9, rfl, by decide, in_X1, "UpAndDown$Table", "UpAndDown", Or.inl rfl, q215⟩
theorem fX13_25 : FldN RX13 25 0 1 := ⟨RX0, TX0, 26, rfl, by decide, in_X0, "UpAndDown", "UpAndDown", Or.inl rfl, q298⟩
theorem fX13_33 : Fld RX13 33 15 1 := ⟨RX13, TX13, 5, rfl, by decide, in_X13, "UpAndDown$Powers", Or.inr q678, q677⟩
def mX13_init : MI := (yX13_init, cX13_init, 3, none, [])
theorem iX13_init : IOK mX13_init 2 := ⟨rfl, by decide, ⟨by decide +kernel, by decide +kernel, by decide +kernel⟩, rfl, rfl, q756, q147, q757⟩
def mX13_ofRow : MI := (yX13_ofRow, cX13_ofRow, 4, some (.long), [])
-- X13_ofRow: instanceMethod ('q1039', 'lw_all') selects None initialized ('q147', 'lw_all')
def mX13_power : MI := (yX13_power, cX13_power, 3, some (.long), [])
theorem vX13_power : VOK mX13_power 1 := ⟨rfl, by decide, ⟨by decide +kernel, by decide +kernel, by decide +kernel⟩, q1043, qs32, q147, q1044⟩
/-! UpAndDown$Half: its fields by the entries of its constants, its methods -/
theorem fX14_1 : Fld RX14 1 16 3 := ⟨RX14, TX14, 4, rfl, by decide, in_X14, "UpAndDown$Half", Or.inl rfl, q773⟩
def mX14_init : MI := (yX14_init, cX14_init, 2, none, [])
theorem iX14_init : IOK mX14_init 1 := ⟨rfl, by decide, ⟨by decide +kernel, by decide +kernel, by decide +kernel⟩, rfl, rfl, q770, q148, q771⟩
def mX14_does : MI := (yX14_does, cX14_does, 2, some (.long), [])
-- X14_does: instanceMethod ('q1062', 'lw_all') selects None initialized ('q148', 'lw_all')
/-! UpAndDown$First: its fields by the entries of its constants, its methods -/
theorem fX15_1 : Fld RX15 1 17 4 := ⟨RX15, TX15, 5, rfl, by decide, in_X15, "UpAndDown$First", Or.inl rfl, q786⟩
theorem fX15_13 : FldN RX15 13 0 1 := ⟨RX0, TX0, 26, rfl, by decide, in_X0, "UpAndDown", "UpAndDown", Or.inl rfl, q294⟩
theorem fX15_19 : FldN RX15 19 0 3 := ⟨RX0, TX0, 26, rfl, by decide, in_X0, "UpAndDown", "UpAndDown", Or.inl rfl, q306⟩
theorem fX15_23 : FldN RX15 23 2 1 := ⟨RX1, TX1, 9, rfl, by decide, in_X1, "UpAndDown$Table", "UpAndDown", Or.inl rfl, q217⟩
def mX15_init : MI := (yX15_init, cX15_init, 2, none, [])
theorem iX15_init : IOK mX15_init 1 := ⟨rfl, by decide, ⟨by decide +kernel, by decide +kernel, by decide +kernel⟩, rfl, rfl, q783, q149, q784⟩
def mX15_ofRow : MI := (yX15_ofRow, cX15_ofRow, 3, some (.long), [])
-- X15_ofRow: instanceMethod ('q1031', 'lw_all') selects None initialized ('q149', 'lw_all')
/-! UpAndDown$Reckoned: its fields by the entries of its constants, its methods -/
theorem fX16_1 : Fld RX16 1 18 3 := ⟨RX16, TX16, 4, rfl, by decide, in_X16, "UpAndDown$Reckoned", Or.inl rfl, q800⟩
theorem fX16_13 : Fld RX16 13 18 0 := ⟨RX16, TX16, 4, rfl, by decide, in_X16, "UpAndDown$Reckoned", Or.inr q676, q675⟩
theorem fX16_17 : Fld RX16 17 18 1 := ⟨RX16, TX16, 4, rfl, by decide, in_X16, "UpAndDown$Reckoned", Or.inr q682, q681⟩
def mX16_init : MI := (yX16_init, cX16_init, 4, none, [])
theorem iX16_init : IOK mX16_init 3 := ⟨rfl, by decide, ⟨by decide +kernel, by decide +kernel, by decide +kernel⟩, rfl, rfl, q797, q150, q798⟩
def mX16_does : MI := (yX16_does, cX16_does, 2, some (.long), [])
-- X16_does: instanceMethod ('q1076', 'lw_all') selects None initialized ('q150', 'lw_all')
/-! UpAndDown$Out: its fields by the entries of its constants, its methods -/
theorem fX17_1 : Fld RX17 1 19 4 := ⟨RX17, TX17, 5, rfl, by decide, in_X17, "UpAndDown$Out", Or.inl rfl, q813⟩
theorem fX17_13 : FldN RX17 13 0 3 := ⟨RX0, TX0, 26, rfl, by decide, in_X0, "UpAndDown", "UpAndDown", Or.inl rfl, q304⟩
theorem fX17_19 : FldN RX17 19 2 1 := ⟨RX1, TX1, 9, rfl, by decide, in_X1, "UpAndDown$Table", "UpAndDown", Or.inl rfl, q214⟩
theorem fX17_25 : FldN RX17 25 0 1 := ⟨RX0, TX0, 26, rfl, by decide, in_X0, "UpAndDown", "UpAndDown", Or.inl rfl, q297⟩
theorem fX17_29 : Fld RX17 29 19 2 := ⟨RX17, TX17, 5, rfl, by decide, in_X17, "UpAndDown$Out", Or.inr q684, q683⟩
def mX17_init : MI := (yX17_init, cX17_init, 3, none, [])
theorem iX17_init : IOK mX17_init 2 := ⟨rfl, by decide, ⟨by decide +kernel, by decide +kernel, by decide +kernel⟩, rfl, rfl, q810, q151, q811⟩
def mX17_ofRow : MI := (yX17_ofRow, cX17_ofRow, 3, some (.long), [])
-- X17_ofRow: instanceMethod ('q1035', 'lw_all') selects None initialized ('q151', 'lw_all')
/-! java/util/ArrayList: its fields by the entries of its constants, its methods -/
theorem fJ2_9 : Fld RJ2 9 3 1 := ⟨RJ2, TJ2, 3, rfl, by decide, in_J2, "java/util/ArrayList", Or.inl rfl, q198⟩
theorem pJ2_9 (mn : String) : FldP RJ2 mn 9 3 1 (.array (.object "java/lang/Object")) := ⟨RJ2, TJ2, 3, tyJ2, rfl, by decide, in_J2, ⟨"java/util/ArrayList", Or.inl rfl, q198⟩, tyJ2_ok, nmJ2, Or.inl rfl, by decide +kernel⟩
theorem fJ2_48 : Fld RJ2 48 3 2 := ⟨RJ2, TJ2, 3, rfl, by decide, in_J2, "java/util/ArrayList", Or.inl rfl, q199⟩
theorem pJ2_48 (mn : String) : FldP RJ2 mn 48 3 2 (.int) := ⟨RJ2, TJ2, 3, tyJ2, rfl, by decide, in_J2, ⟨"java/util/ArrayList", Or.inl rfl, q199⟩, tyJ2_ok, nmJ2, Or.inl rfl, by decide +kernel⟩
theorem fJ2_63 : Fld RJ2 63 3 0 := ⟨RJ2, TJ2, 3, rfl, by decide, in_J2, "java/util/ArrayList", Or.inr q202, q201⟩
theorem pJ2_63 (mn : String) : FldP RJ2 mn 63 3 0 (.int) := ⟨RJ2, TJ2, 3, tyJ2, rfl, by decide, in_J2, ⟨"java/util/ArrayList", Or.inr q202, q201⟩, tyJ2_ok, nmJ2, Or.inl rfl, by decide +kernel⟩
def mJ2_init : MI := (yJ2_init, cJ2_init, 2, none, [])
theorem iJ2_init : IOK mJ2_init 1 := ⟨rfl, by decide, ⟨by decide +kernel, by decide +kernel, by decide +kernel⟩, rfl, rfl, q185, q126, q186⟩
def mJ2_size : MI := (yJ2_size, cJ2_size, 1, some (.int), [])
theorem vJ2_size : VOK mJ2_size 0 := ⟨rfl, by decide, ⟨by decide +kernel, by decide +kernel, by decide +kernel⟩, q643, q644, q126, q645⟩
def mJ2_add : MI := (yJ2_add, cJ2_add, 2, some (.boolean), [])
theorem vJ2_add : VOK mJ2_add 1 := ⟨rfl, by decide, ⟨by decide +kernel, by decide +kernel, by decide +kernel⟩, q822, q823, q126, q824⟩
def mJ2_add_2 : MI := (yJ2_add_2, cJ2_add_2, 4, none, [])
theorem vJ2_add_2 : VOK mJ2_add_2 3 := ⟨rfl, by decide, ⟨by decide +kernel, by decide +kernel, by decide +kernel⟩, q827, qs18, q126, q828⟩
def mJ2_grow : MI := (yJ2_grow, cJ2_grow, 1, some (.array (.object "java/lang/Object")), [])
theorem vJ2_grow : VOK mJ2_grow 0 := ⟨rfl, by decide, ⟨by decide +kernel, by decide +kernel, by decide +kernel⟩, q831, qs19, q126, q832⟩
def mJ2_grow_2 : MI := (yJ2_grow_2, cJ2_grow_2, 4, some (.array (.object "java/lang/Object")), [])
theorem vJ2_grow_2 : VOK mJ2_grow_2 1 := ⟨rfl, by decide, ⟨by decide +kernel, by decide +kernel, by decide +kernel⟩, q835, qs20, q126, q836⟩
def mJ2_get : MI := (yJ2_get, cJ2_get, 2, some (.object "java/lang/Object"), [])
theorem vJ2_get : VOK mJ2_get 1 := ⟨rfl, by decide, ⟨by decide +kernel, by decide +kernel, by decide +kernel⟩, q934, q935, q126, q936⟩
def mJ2_elementData : MI := (yJ2_elementData, cJ2_elementData, 2, some (.object "java/lang/Object"), [])
theorem vJ2_elementData : VOK mJ2_elementData 1 := ⟨rfl, by decide, ⟨by decide +kernel, by decide +kernel, by decide +kernel⟩, q942, q943, q126, q944⟩
def mJ2_set : MI := (yJ2_set, cJ2_set, 4, some (.object "java/lang/Object"), [])
theorem vJ2_set : VOK mJ2_set 2 := ⟨rfl, by decide, ⟨by decide +kernel, by decide +kernel, by decide +kernel⟩, q966, q967, q126, q968⟩
def mJ2_addAll : MI := (yJ2_addAll, cJ2_addAll, 6, some (.boolean), [])
theorem vJ2_addAll : VOK mJ2_addAll 1 := ⟨rfl, by decide, ⟨by decide +kernel, by decide +kernel, by decide +kernel⟩, q1411, q1412, q126, q1413⟩
def mJ2_toArray : MI := (yJ2_toArray, cJ2_toArray, 1, some (.array (.object "java/lang/Object")), [])
-- J2_toArray: instanceMethod ('q1421', 'lw_all') selects None initialized ('q126', 'lw_all')
/-! java/lang/Math: its fields by the entries of its constants, its methods -/
def mJ3_min : MI := (yJ3_min, cJ3_min, 2, some (.int), [])
theorem vJ3_min : SOK mJ3_min 2 := ⟨rfl, by decide, ⟨by decide +kernel, by decide +kernel, by decide +kernel⟩, q432, q132, q433⟩
def mJ3_max : MI := (yJ3_max, cJ3_max, 2, some (.int), [])
theorem vJ3_max : SOK mJ3_max 2 := ⟨rfl, by decide, ⟨by decide +kernel, by decide +kernel, by decide +kernel⟩, q843, q132, q844⟩
def mJ3_abs : MI := (yJ3_abs, cJ3_abs, 1, some (.int), [])
theorem vJ3_abs : SOK mJ3_abs 1 := ⟨rfl, by decide, ⟨by decide +kernel, by decide +kernel, by decide +kernel⟩, q1071, q132, q1072⟩
/-! java/lang/Integer: its fields by the entries of its constants, its methods -/
theorem fJ13_205 : Fld RJ13 205 8 0 := ⟨RJ13, TJ13, 1, rfl, by decide, in_J13, "java/lang/Integer", Or.inl rfl, q913⟩
theorem pJ13_205 : FldP RJ13 "<init>" 205 8 0 (.int) := ⟨RJ13, TJ13, 1, tyJ13, rfl, by decide, in_J13, ⟨"java/lang/Integer", Or.inl rfl, q913⟩, tyJ13_ok, nmJ13, Or.inr ⟨rfl, rfl, rfl⟩, by decide +kernel⟩
def mJ13_valueOf : MI := (yJ13_valueOf, cJ13_valueOf, 1, some (.object "java/lang/Integer"), [])
theorem vJ13_valueOf : SOK mJ13_valueOf 1 := ⟨rfl, by decide, ⟨by decide +kernel, by decide +kernel, by decide +kernel⟩, q898, q156, q899⟩
def mJ13_init : MI := (yJ13_init, cJ13_init, 2, none, [])
theorem iJ13_init : IOK mJ13_init 1 := ⟨rfl, by decide, ⟨by decide +kernel, by decide +kernel, by decide +kernel⟩, rfl, rfl, q907, q156, q908⟩
def mJ13_intValue : MI := (yJ13_intValue, cJ13_intValue, 1, some (.int), [])
theorem vJ13_intValue : VOK mJ13_intValue 0 := ⟨rfl, by decide, ⟨by decide +kernel, by decide +kernel, by decide +kernel⟩, q1222, q1223, q156, q1224⟩
def mJ13_bitCount : MI := (yJ13_bitCount, cJ13_bitCount, 1, some (.int), [])
theorem vJ13_bitCount : SOK mJ13_bitCount 1 := ⟨rfl, by decide, ⟨by decide +kernel, by decide +kernel, by decide +kernel⟩, q1234, q156, q1235⟩
/-! java/lang/Number: its fields by the entries of its constants, its methods -/
def mJ12_init : MI := (yJ12_init, cJ12_init, 1, none, [])
theorem iJ12_init : IOK mJ12_init 0 := ⟨rfl, by decide, ⟨by decide +kernel, by decide +kernel, by decide +kernel⟩, rfl, rfl, q910, q155, q911⟩
/-! java/lang/String: its fields by the entries of its constants, its methods -/
theorem fJ4_9 : Fld RJ4 9 9 0 := ⟨RJ4, TJ4, 2, rfl, by decide, in_J4, "java/lang/String", Or.inl rfl, q2158⟩
theorem fJ4_15 : Fld RJ4 15 9 1 := ⟨RJ4, TJ4, 2, rfl, by decide, in_J4, "java/lang/String", Or.inl rfl, q2159⟩
def mJ4_length : MI := (yJ4_length, cJ4_length, 1, some (.int), [])
theorem vJ4_length : VOK mJ4_length 0 := ⟨rfl, by decide, ⟨by decide +kernel, by decide +kernel, by decide +kernel⟩, q484, q485, q133, q486⟩
def mJ4_coder : MI := (yJ4_coder, cJ4_coder, 1, some (.byte), [])
theorem vJ4_coder : VOK mJ4_coder 0 := ⟨rfl, by decide, ⟨by decide +kernel, by decide +kernel, by decide +kernel⟩, q488, q489, q133, q490⟩
def mJ4_charAt : MI := (yJ4_charAt, cJ4_charAt, 2, some (.char), [])
theorem vJ4_charAt : VOK mJ4_charAt 1 := ⟨rfl, by decide, ⟨by decide +kernel, by decide +kernel, by decide +kernel⟩, q494, q495, q133, q496⟩
def mJ4_isLatin1 : MI := (yJ4_isLatin1, cJ4_isLatin1, 1, some (.boolean), [])
theorem vJ4_isLatin1 : VOK mJ4_isLatin1 0 := ⟨rfl, by decide, ⟨by decide +kernel, by decide +kernel, by decide +kernel⟩, q498, q499, q133, q500⟩
def mJ4_checkIndex : MI := (yJ4_checkIndex, cJ4_checkIndex, 2, none, [])
theorem vJ4_checkIndex : SOK mJ4_checkIndex 2 := ⟨rfl, by decide, ⟨by decide +kernel, by decide +kernel, by decide +kernel⟩, q505, q133, q506⟩
/-! java/lang/StringLatin1: its fields by the entries of its constants, its methods -/
def mJ5_charAt : MI := (yJ5_charAt, cJ5_charAt, 2, some (.char), [])
theorem vJ5_charAt : SOK mJ5_charAt 2 := ⟨rfl, by decide, ⟨by decide +kernel, by decide +kernel, by decide +kernel⟩, q502, q134, q503⟩
/-! java/util/Objects: its fields by the entries of its constants, its methods -/
def mJ14_checkIndex : MI := (yJ14_checkIndex, cJ14_checkIndex, 2, some (.int), [])
theorem vJ14_checkIndex : SOK mJ14_checkIndex 2 := ⟨rfl, by decide, ⟨by decide +kernel, by decide +kernel, by decide +kernel⟩, q938, q158, q939⟩
/-! jdk/internal/util/Preconditions: its fields by the entries of its constants, its methods -/
def mJ6_checkIndex : MI := (yJ6_checkIndex, cJ6_checkIndex, 3, some (.int), [])
theorem vJ6_checkIndex : SOK mJ6_checkIndex 3 := ⟨rfl, by decide, ⟨by decide +kernel, by decide +kernel, by decide +kernel⟩, q510, q135, q511⟩
/-! jdk/internal/util/ArraysSupport: its fields by the entries of its constants, its methods -/
def mJ10_newLength : MI := (yJ10_newLength, cJ10_newLength, 4, some (.int), [])
theorem vJ10_newLength : SOK mJ10_newLength 3 := ⟨rfl, by decide, ⟨by decide +kernel, by decide +kernel, by decide +kernel⟩, q840, q152, q841⟩
def mJ10_hugeLength : MI := (yJ10_hugeLength, cJ10_hugeLength, 3, some (.int), [])
theorem vJ10_hugeLength : SOK mJ10_hugeLength 2 := ⟨rfl, by decide, ⟨by decide +kernel, by decide +kernel, by decide +kernel⟩, q847, q152, q848⟩
/-! java/util/Arrays: its fields by the entries of its constants, its methods -/
def mJ11_copyOf : MI := (yJ11_copyOf, cJ11_copyOf, 2, some (.array (.object "java/lang/Object")), [])
theorem vJ11_copyOf : SOK mJ11_copyOf 2 := ⟨rfl, by decide, ⟨by decide +kernel, by decide +kernel, by decide +kernel⟩, q850, q153, q851⟩
def mJ11_copyOf_2 : MI := (yJ11_copyOf_2, cJ11_copyOf_2, 4, some (.array (.object "java/lang/Object")), [])
theorem vJ11_copyOf_2 : SOK mJ11_copyOf_2 3 := ⟨rfl, by decide, ⟨by decide +kernel, by decide +kernel, by decide +kernel⟩, q881, q153, q882⟩
/-! java/util/AbstractList: its fields by the entries of its constants, its methods -/
-- ref java/util/AbstractList
def mJ1_init : MI := (yJ1_init, cJ1_init, 1, none, [])
theorem iJ1_init : IOK mJ1_init 0 := ⟨rfl, by decide, ⟨by decide +kernel, by decide +kernel, by decide +kernel⟩, rfl, rfl, q188, q125, q189⟩
/-! java/util/AbstractCollection: its fields by the entries of its constants, its methods -/
def mJ0_init : MI := (yJ0_init, cJ0_init, 1, none, [])
theorem iJ0_init : IOK mJ0_init 0 := ⟨rfl, by decide, ⟨by decide +kernel, by decide +kernel, by decide +kernel⟩, rfl, rfl, q191, q124, q192⟩
/-! java/lang/Throwable: its fields by the entries of its constants, its methods -/
-- ref java/lang/Throwable
-- ref java/lang/Throwable
-- ref java/lang/Throwable
-- ref java/lang/Throwable
def mJ8_init : MI := (yJ8_init, cJ8_init, 1, none, [])
theorem iJ8_init : IOK mJ8_init 0 := ⟨rfl, by decide, ⟨by decide +kernel, by decide +kernel, by decide +kernel⟩, rfl, rfl, q556, q137, q557⟩
def mJ8_init_2 : MI := (yJ8_init_2, cJ8_init_2, 5, none, [])
theorem iJ8_init_2 : IOK mJ8_init_2 4 := ⟨rfl, by decide, ⟨by decide +kernel, by decide +kernel, by decide +kernel⟩, rfl, rfl, q596, q137, q597⟩
def mJ8_init_3 : MI := (yJ8_init_3, cJ8_init_3, 2, none, [])
theorem iJ8_init_3 : IOK mJ8_init_3 1 := ⟨rfl, by decide, ⟨by decide +kernel, by decide +kernel, by decide +kernel⟩, rfl, rfl, q1444, q137, q1445⟩
/-! java/lang/Exception: its fields by the entries of its constants, its methods -/
def mJ9_init : MI := (yJ9_init, cJ9_init, 5, none, [])
theorem iJ9_init : IOK mJ9_init 4 := ⟨rfl, by decide, ⟨by decide +kernel, by decide +kernel, by decide +kernel⟩, rfl, rfl, q593, q138, q594⟩
def mJ9_init_2 : MI := (yJ9_init_2, cJ9_init_2, 1, none, [])
theorem iJ9_init_2 : IOK mJ9_init_2 0 := ⟨rfl, by decide, ⟨by decide +kernel, by decide +kernel, by decide +kernel⟩, rfl, rfl, q1356, q138, q1357⟩
def mJ9_init_3 : MI := (yJ9_init_3, cJ9_init_3, 2, none, [])
theorem iJ9_init_3 : IOK mJ9_init_3 1 := ⟨rfl, by decide, ⟨by decide +kernel, by decide +kernel, by decide +kernel⟩, rfl, rfl, q1441, q138, q1442⟩
/-! java/lang/RuntimeException: its fields by the entries of its constants, its methods -/
def mJ15_init : MI := (yJ15_init, cJ15_init, 1, none, [])
theorem iJ15_init : IOK mJ15_init 0 := ⟨rfl, by decide, ⟨by decide +kernel, by decide +kernel, by decide +kernel⟩, rfl, rfl, q1353, q160, q1354⟩
def mJ15_init_2 : MI := (yJ15_init_2, cJ15_init_2, 2, none, [])
theorem iJ15_init_2 : IOK mJ15_init_2 1 := ⟨rfl, by decide, ⟨by decide +kernel, by decide +kernel, by decide +kernel⟩, rfl, rfl, q1438, q160, q1439⟩
/-! java/lang/NullPointerException: its fields by the entries of its constants, its methods -/
def mJ16_init : MI := (yJ16_init, cJ16_init, 1, none, [])
theorem iJ16_init : IOK mJ16_init 0 := ⟨rfl, by decide, ⟨by decide +kernel, by decide +kernel, by decide +kernel⟩, rfl, rfl, q1350, q161, q1351⟩
/-! java/lang/NegativeArraySizeException: its fields by the entries of its constants, its methods -/
def mJ17_init : MI := (yJ17_init, cJ17_init, 2, none, [])
theorem iJ17_init : IOK mJ17_init 1 := ⟨rfl, by decide, ⟨by decide +kernel, by decide +kernel, by decide +kernel⟩, rfl, rfl, q1435, q162, q1436⟩
/-! java/lang/IndexOutOfBoundsException: its fields by the entries of its constants, its methods -/
def mJ18_init : MI := (yJ18_init, cJ18_init, 2, none, [])
theorem iJ18_init : IOK mJ18_init 1 := ⟨rfl, by decide, ⟨by decide +kernel, by decide +kernel, by decide +kernel⟩, rfl, rfl, q1475, q163, q1476⟩
/-! java/lang/ArrayIndexOutOfBoundsException: its fields by the entries of its constants, its methods -/
def mJ19_init : MI := (yJ19_init, cJ19_init, 2, none, [])
theorem iJ19_init : IOK mJ19_init 1 := ⟨rfl, by decide, ⟨by decide +kernel, by decide +kernel, by decide +kernel⟩, rfl, rfl, q1472, q164, q1473⟩
/-! java/lang/ArrayStoreException: its fields by the entries of its constants, its methods -/
def mJ20_init : MI := (yJ20_init, cJ20_init, 2, none, [])
theorem iJ20_init : IOK mJ20_init 1 := ⟨rfl, by decide, ⟨by decide +kernel, by decide +kernel, by decide +kernel⟩, rfl, rfl, q1499, q165, q1500⟩
