set_option maxRecDepth 100000

